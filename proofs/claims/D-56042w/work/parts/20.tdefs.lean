/-! THE TWIN's PICTURE: its object's ints g, its present row B, the other rows Bs, its line L, its input I, its commands C; rows over it -/
set_option maxRecDepth 100000
def tF (m : Nat → Nat) (g : Nat → Int32) : List Value := [.int (g 0), .ref (m 1), .int (g 2), .int (g 3), .int (g 4), .int (g 5), .int (g 6), .int (g 7), .ref (m 2), .int (g 9), .ref (m 3), .int (g 11), .int (g 12), .int (g 13), .int (g 14), .ref (m 4), .int (g 16)]
/-- the twelve rows as one -/
def tG (B : Nat → Int32) (Bs : Nat → Nat → Int32) : Nat → Int32 := fun j => if j < 129 then B j else Bs (j / 129) (j % 129)
def tW (z : State) (D : yD) (m : Nat → Nat) (g B : Nat → Int32) (Bs : Nat → Nat → Int32) (L I C : Nat → Int32) (H : Heap) : Prop :=
  yO D 3 (tF m g) (m 0) H ∧ yA D 0 (1548, .inl (tG B Bs)) (m 1) H ∧ yA D 2 (40, .inl L) (m 2) H ∧ yA D 2 (60, .inl I) (m 3) H ∧ yA D 0 (244, .inl C) (m 4) H ∧ (∀ i j : Nat, i < 5 → j < 5 → m i = m j → i = j) ∧ ∀ i : Nat, i < 5 → z.heap.size ≤ m i
def tA (m : Nat → Nat) : Nat → Prop := fun q => ∃ i : Nat, i < 5 ∧ q = m i
theorem tA.i (m : Nat → Nat) (i : Nat) (h : i < 5) : tA m (m i) := ⟨i, h, rfl⟩
section TW1
variable {z : State} {D : yD} {m : Nat → Nat} {g g' B B' : Nat → Int32} {Bs Bs' : Nat → Nat → Int32} {L I C L' I' C' : Nat → Int32} {H H1 : Heap}
theorem tW.az (h : tW z D m g B Bs L I C H) : ∀ q : Nat, tA m q → z.heap.size ≤ q := by
  rintro q ⟨i, hi, rfl⟩
  exact h.2.2.2.2.2.2 i hi
theorem tW.cast (h : tW z D m g B Bs L I C H) (h1 : g = g') (h2 : B = B') (h3 : Bs = Bs') (h4 : L = L') (h5 : I = I') (h6 : C = C') : tW z D m g' B' Bs' L' I' C' H := by
  subst h1; subst h2; subst h3; subst h4; subst h5; subst h6; exact h
theorem tW.ne (h : tW z D m g B Bs L I C H) {i j : Nat} (hi : i < 5) (hj : j < 5) (hij : i ≠ j) : m i ≠ m j := fun e => hij (h.2.2.2.2.2.1 i j hi hj e)
/-- the world elsewhere has moved -/
theorem tW.kept (h : tW z D m g B Bs L I C H) (hq : ∀ i : Nat, i < 5 → H1[m i]? = H[m i]?) : tW z D m g B Bs L I C H1 := by
  obtain ⟨h0, h1, h2, h3, h4, h5, h6⟩ := h
  exact ⟨h0.kept (hq 0 (by decide)), h1.kept (hq 1 (by decide)), h2.kept (hq 2 (by decide)), h3.kept (hq 3 (by decide)), h4.kept (hq 4 (by decide)), h5, h6⟩
theorem tW.lt (h : tW z D m g B Bs L I C H) {i : Nat} (hi : i < 5) : m i < H.size := by
  obtain ⟨h0, h1, h2, h3, h4, -, -⟩ := h
  match i, hi with
  | 0, _ => exact h0.lt
  | 1, _ => exact h1.lt
  | 2, _ => exact h2.lt
  | 3, _ => exact h3.lt
  | 4, _ => exact h4.lt
theorem tG_lo {j : Nat} (h : j < 129) : tG B Bs j = B j := if_pos h
theorem tG_hi {b k : Nat} (hb : 0 < b) (hk : k < 129) : tG B Bs (129 * b + k) = Bs b k := by
  unfold tG
  rw [if_neg (by omega), show (129 * b + k) / 129 = b by omega, show (129 * b + k) % 129 = k by omega]
theorem tG_put {j : Nat} (h : j < 129) (x : Int32) : upd (tG B Bs) j x = tG (upd B j x) Bs := by
  funext i
  unfold tG upd
  by_cases e : i = j
  · subst e; simp [h]
  · simp [e]
theorem tG_putH {b k : Nat} (hb : 0 < b) (hk : k < 129) (x : Int32) : upd (tG B Bs) (129 * b + k) x = tG B (fun b' k' => if b' = b ∧ k' = k then x else Bs b' k') := by
  funext i
  unfold tG upd
  by_cases e : i = 129 * b + k
  · subst e
    rw [if_pos rfl, if_neg (by omega)]
    dsimp only
    rw [if_pos ⟨by omega, by omega⟩]
  · rw [if_neg e]
    dsimp only
    by_cases h : i < 129
    · rw [if_pos h, if_pos h]
    · rw [if_neg h, if_neg h, if_neg (by omega)]
end TW1
section TW2
variable {E : yE} {z : State} {D : yD} {A : Nat → Prop} {cc : ByteArray} {nL0 : Nat} {ret0 : Option FieldType} {d mc ms : Nat} {H : Heap} {kc kn : Nat} {Q : State → Prop} {pc : Nat} {ls : Array Slot} {rest : List Value}
variable {m : Nat → Nat} {g B : Nat → Int32} {Bs : Nat → Nat → Int32} {L I C : Nat → Int32}
theorem t_get {idx : Nat} {v : Value} (hE : yOk E z D A RX4 cc nL0 ret0 d mc ms) (k : Nat) (hk : k < 17) (hq : Cond.fieldLink RX4 idx RX4 (TX4 k).2.1 (TX4 k).2.2.1 ∈ lw_all) (hr : (TX4 k).1 = RX4) (hW : tW z D m g B Bs L I C H) (hv : (tF m g)[k]? = some v) (hdg : decode cc pc = .ok (.getfield idx, 3)) (kk : yY E A H kc kn Q (pc + 3) ls (v :: rest)) : yY E A H kc kn Q pc ls (.ref (m 0) :: rest) :=
  y_get hE in_X4 rfl k hk hq hr hW.1 hv hdg kk
theorem t_put {idx : Nat} {v : Int32} {g' : Nat → Int32} (hE : yOk E z D (tA m) RX4 cc nL0 ret0 d mc ms) (hW : tW z D m g B Bs L I C H) (k : Nat) (hk : k < 17) (hq : Cond.fieldLink RX4 idx RX4 (TX4 k).2.1 (TX4 k).2.2.1 ∈ lw_all) (hr : (TX4 k).1 = RX4) (hfin : (TX4 k).2.2.2 = false) (hn : narrow (tyX4 k) (.int v) = .int v) (hf : fits (tyX4 k) (.int v) = true) (hset : (tF m g).set k (.int v) = tF m g') (hdg : decode cc pc = .ok (.putfield idx, 3))
    (kk : ∀ H : Heap, tW z D m g' B Bs L I C H → yY E (tA m) H kc kn Q (pc + 3) ls rest) : yY E (tA m) H kc kn Q pc ls (.int v :: .ref (m 0) :: rest) := by
  refine y_put hE in_X4 tyX4_ok nmX4 rfl k hk hq hr hfin rfl (tA.i m 0 (by decide)) hW.1 (by show k < 17; exact hk) hn hf hdg fun H1 h1 h2 h3 => kk H1 ?_
  rw [hset] at h1
  obtain ⟨-, g1, g2, g3, g4, g5, g6⟩ := id hW
  exact ⟨h1, g1.kept (h3 _ (hW.ne (by decide) (by decide) (by decide))), g2.kept (h3 _ (hW.ne (by decide) (by decide) (by decide))), g3.kept (h3 _ (hW.ne (by decide) (by decide) (by decide))), g4.kept (h3 _ (hW.ne (by decide) (by decide) (by decide))), g5, g6⟩
theorem t_aldB {i v : Int32} {j : Nat} (hE : yOk E z D A RX4 cc nL0 ret0 d mc ms) (hW : tW z D m g B Bs L I C H) (hi : i = nI j) (hj : j < 129) (hv : B j = v) (hdg : decode cc pc = .ok (.iaload, 1)) (kk : yY E A H kc kn Q (pc + 1) ls (.int v :: rest)) : yY E A H kc kn Q pc ls (.int i :: .ref (m 1) :: rest) :=
  y_iald (j := j) hE hW.2.1 hi (by omega) (by decide) hdg (by rw [tG_lo hj, hv]; exact kk)
theorem t_aldH {i : Int32} {b k : Nat} (hE : yOk E z D A RX4 cc nL0 ret0 d mc ms) (hW : tW z D m g B Bs L I C H) (hi : i = nI (129 * b + k)) (hb : 0 < b) (hb2 : b < 12) (hk : k < 129) (hdg : decode cc pc = .ok (.iaload, 1)) (kk : yY E A H kc kn Q (pc + 1) ls (.int (Bs b k) :: rest)) : yY E A H kc kn Q pc ls (.int i :: .ref (m 1) :: rest) :=
  y_iald (j := 129 * b + k) hE hW.2.1 hi (by omega) (by decide) hdg (by rw [tG_hi hb hk]; exact kk)
theorem t_astB {i x : Int32} {j : Nat} (hE : yOk E z D (tA m) RX4 cc nL0 ret0 d mc ms) (hW : tW z D m g B Bs L I C H) (hi : i = nI j) (hj : j < 129) (hdg : decode cc pc = .ok (.iastore, 1)) (kk : ∀ H : Heap, tW z D m g (upd B j x) Bs L I C H → yY E (tA m) H kc kn Q (pc + 1) ls rest) : yY E (tA m) H kc kn Q pc ls (.int x :: .int i :: .ref (m 1) :: rest) := by
  refine y_iast (j := j) hE (tA.i m 1 (by decide)) hW.2.1 hi (by omega) (by decide) hdg fun H1 h1 h2 h3 => kk H1 ?_
  rw [tG_put hj] at h1
  obtain ⟨g0, -, g2, g3, g4, g5, g6⟩ := id hW
  exact ⟨g0.kept (h3 _ (hW.ne (by decide) (by decide) (by decide))), h1, g2.kept (h3 _ (hW.ne (by decide) (by decide) (by decide))), g3.kept (h3 _ (hW.ne (by decide) (by decide) (by decide))), g4.kept (h3 _ (hW.ne (by decide) (by decide) (by decide))), g5, g6⟩
theorem t_astH {i x : Int32} {b k : Nat} (hE : yOk E z D (tA m) RX4 cc nL0 ret0 d mc ms) (hW : tW z D m g B Bs L I C H) (hi : i = nI (129 * b + k)) (hb : 0 < b) (hb2 : b < 12) (hk : k < 129) (hdg : decode cc pc = .ok (.iastore, 1)) (kk : ∀ H : Heap, tW z D m g B (fun b' k' => if b' = b ∧ k' = k then x else Bs b' k') L I C H → yY E (tA m) H kc kn Q (pc + 1) ls rest) : yY E (tA m) H kc kn Q pc ls (.int x :: .int i :: .ref (m 1) :: rest) := by
  refine y_iast (j := 129 * b + k) hE (tA.i m 1 (by decide)) hW.2.1 hi (by omega) (by decide) hdg fun H1 h1 h2 h3 => kk H1 ?_
  rw [tG_putH hb hk] at h1
  obtain ⟨g0, -, g2, g3, g4, g5, g6⟩ := id hW
  exact ⟨g0.kept (h3 _ (hW.ne (by decide) (by decide) (by decide))), h1, g2.kept (h3 _ (hW.ne (by decide) (by decide) (by decide))), g3.kept (h3 _ (hW.ne (by decide) (by decide) (by decide))), g4.kept (h3 _ (hW.ne (by decide) (by decide) (by decide))), g5, g6⟩
theorem t_cldL {i : Int32} {j : Nat} (hE : yOk E z D A RX4 cc nL0 ret0 d mc ms) (hW : tW z D m g B Bs L I C H) (hi : i = nI j) (hj : j < 40) (hdg : decode cc pc = .ok (.caload, 1)) (kk : yY E A H kc kn Q (pc + 1) ls (.int (L j) :: rest)) : yY E A H kc kn Q pc ls (.int i :: .ref (m 2) :: rest) :=
  y_cald (j := j) hE hW.2.2.1 hi hj (by decide) hdg kk
theorem t_cldI {i : Int32} {j : Nat} (hE : yOk E z D A RX4 cc nL0 ret0 d mc ms) (hW : tW z D m g B Bs L I C H) (hi : i = nI j) (hj : j < 60) (hdg : decode cc pc = .ok (.caload, 1)) (kk : yY E A H kc kn Q (pc + 1) ls (.int (I j) :: rest)) : yY E A H kc kn Q pc ls (.int i :: .ref (m 3) :: rest) :=
  y_cald (j := j) hE hW.2.2.2.1 hi hj (by decide) hdg kk
theorem t_castL {i x x' : Int32} {j : Nat} (hE : yOk E z D (tA m) RX4 cc nL0 ret0 d mc ms) (hW : tW z D m g B Bs L I C H) (hi : i = nI j) (hj : j < 40) (hx : vp_nar .char x = x') (hdg : decode cc pc = .ok (.castore, 1)) (kk : ∀ H : Heap, tW z D m g B Bs (upd L j x') I C H → yY E (tA m) H kc kn Q (pc + 1) ls rest) : yY E (tA m) H kc kn Q pc ls (.int x :: .int i :: .ref (m 2) :: rest) := by
  subst hx
  refine y_cast (j := j) hE (tA.i m 2 (by decide)) hW.2.2.1 hi (by omega) (by decide) hdg fun H1 h1 h2 h3 => kk H1 ?_
  obtain ⟨g0, g1, -, g3, g4, g5, g6⟩ := id hW
  exact ⟨g0.kept (h3 _ (hW.ne (by decide) (by decide) (by decide))), g1.kept (h3 _ (hW.ne (by decide) (by decide) (by decide))), h1, g3.kept (h3 _ (hW.ne (by decide) (by decide) (by decide))), g4.kept (h3 _ (hW.ne (by decide) (by decide) (by decide))), g5, g6⟩
theorem t_castI {i x x' : Int32} {j : Nat} (hE : yOk E z D (tA m) RX4 cc nL0 ret0 d mc ms) (hW : tW z D m g B Bs L I C H) (hi : i = nI j) (hj : j < 60) (hx : vp_nar .char x = x') (hdg : decode cc pc = .ok (.castore, 1)) (kk : ∀ H : Heap, tW z D m g B Bs L (upd I j x') C H → yY E (tA m) H kc kn Q (pc + 1) ls rest) : yY E (tA m) H kc kn Q pc ls (.int x :: .int i :: .ref (m 3) :: rest) := by
  subst hx
  refine y_cast (j := j) hE (tA.i m 3 (by decide)) hW.2.2.2.1 hi (by omega) (by decide) hdg fun H1 h1 h2 h3 => kk H1 ?_
  obtain ⟨g0, g1, g2, -, g4, g5, g6⟩ := id hW
  exact ⟨g0.kept (h3 _ (hW.ne (by decide) (by decide) (by decide))), g1.kept (h3 _ (hW.ne (by decide) (by decide) (by decide))), g2.kept (h3 _ (hW.ne (by decide) (by decide) (by decide))), h1, g4.kept (h3 _ (hW.ne (by decide) (by decide) (by decide))), g5, g6⟩
theorem t_aldC {i : Int32} {j : Nat} (hE : yOk E z D A RX4 cc nL0 ret0 d mc ms) (hW : tW z D m g B Bs L I C H) (hi : i = nI j) (hj : j < 244) (hdg : decode cc pc = .ok (.iaload, 1)) (kk : yY E A H kc kn Q (pc + 1) ls (.int (C j) :: rest)) : yY E A H kc kn Q pc ls (.int i :: .ref (m 4) :: rest) :=
  y_iald (j := j) hE hW.2.2.2.2.1 hi hj (by decide) hdg kk
theorem t_astC {i x : Int32} {j : Nat} (hE : yOk E z D (tA m) RX4 cc nL0 ret0 d mc ms) (hW : tW z D m g B Bs L I C H) (hi : i = nI j) (hj : j < 244) (hdg : decode cc pc = .ok (.iastore, 1)) (kk : ∀ H : Heap, tW z D m g B Bs L I (upd C j x) H → yY E (tA m) H kc kn Q (pc + 1) ls rest) : yY E (tA m) H kc kn Q pc ls (.int x :: .int i :: .ref (m 4) :: rest) := by
  refine y_iast (j := j) hE (tA.i m 4 (by decide)) hW.2.2.2.2.1 hi (by omega) (by decide) hdg fun H1 h1 h2 h3 => kk H1 ?_
  obtain ⟨g0, g1, g2, g3, -, g5, g6⟩ := id hW
  exact ⟨g0.kept (h3 _ (hW.ne (by decide) (by decide) (by decide))), g1.kept (h3 _ (hW.ne (by decide) (by decide) (by decide))), g2.kept (h3 _ (hW.ne (by decide) (by decide) (by decide))), g3.kept (h3 _ (hW.ne (by decide) (by decide) (by decide))), h1, g5, g6⟩
theorem y_st {st st' : List Value} (h : st = st') (k : yY E A H kc kn Q pc ls st') : yY E A H kc kn Q pc ls st := by rw [h]; exact k
end TW2
/-! pure functions of the twin's row -/
def m_in (v a b : Int32) : Bool := !(decide (v < a)) && !(decide (b < v))
/-- the first place from i on, of the next f, where p holds -/
def y_fst (p : Nat → Bool) : Nat → Nat → Option Nat
  | _, 0 => none
  | i, f + 1 => if p i then some i else y_fst p (i + 1) f
theorem y_fst_0 (p : Nat → Bool) (n : Nat) : y_fst p n (n - n) = none := by rw [Nat.sub_self]; rfl
theorem y_fst_y {p : Nat → Bool} {i n : Nat} (h : i < n) (hp : p i = true) : y_fst p i (n - i) = some i := by
  rw [show n - i = (n - (i + 1)) + 1 by omega]
  simp [y_fst, hp]
theorem y_fst_n {p : Nat → Bool} {i n : Nat} (h : i < n) (hp : p i = false) : y_fst p i (n - i) = y_fst p (i + 1) (n - (i + 1)) := by
  rw [show n - i = (n - (i + 1)) + 1 by omega]
  simp [y_fst, hp]
def y_sum (f : Nat → Int32) : Nat → Int32
  | 0 => 0
  | n + 1 => y_sum f n + f n
def m_o (o : Option Nat) : Int32 := match o with
  | none => -1
  | some k => nI k
def m_o0 (o : Option Nat) : Int32 := match o with
  | none => 0
  | some k => nI k
abbrev m_t (B : Nat → Int32) (k w : Nat) : Int32 := B (57 + 6 * k + w)
def m_isT (n : Nat) (x : Int32) : Bool := m_in x 0 (nI n - 1)
def m_cell (r c : Int32) : Bool := m_in r 0 4 && m_in c 0 5
def m_at (B : Nat → Int32) (n : Nat) (r c : Int32) : Option Nat := y_fst (fun k => decide (m_t B k 0 = r) && decide (m_t B k 1 = c)) 0 n
def m_fac (v : Int32) : Int32 := if v < 3 ∨ ¬ v ≤ 22 then 0 else if ¬ 5 ≤ v then 2 else if ¬ 8 ≤ v then 5 else if ¬ 12 ≤ v then 8 else 10
def m_wakeAt (B : Nat → Int32) (n : Nat) (r c : Int32) : Int32 := match m_at B n r c with
  | none => 0
  | some j => if m_t B j 3 = 0 then 1 else 0
def m_wake (B : Nat → Int32) (n k : Nat) (far : Int32) : Int32 :=
  m_wakeAt B n (m_t B k 0 + (if B 1 = 0 then -far else if B 1 = 2 then far else 0)) (m_t B k 1 + (if B 1 = 1 then far else if B 1 = 3 then -far else 0))
def m_loss (B : Nat → Int32) (n k : Nat) : Int32 := 3 * m_wake B n k 1 + m_wake B n k 2
def m_avail (B : Nat → Int32) (n k : Nat) : Int32 := if m_t B k 3 ≠ 0 ∨ m_fac (B 2) - m_loss B n k < 0 then 0 else m_t B k 2 * (m_fac (B 2) - m_loss B n k)
def m_out (B : Nat → Int32) (n k : Nat) : Int32 := if 0 ≤ m_t B k 5 - 1 ∧ m_t B k 5 - 1 < m_avail B n k then m_t B k 5 - 1 else m_avail B n k
def m_total (B : Nat → Int32) (n : Nat) : Int32 := y_sum (fun k => m_out B n k) n
def m_inSt (B : Nat → Int32) (n : Nat) (s : Int32) : Int32 := y_sum (fun k => if m_t B k 3 = s then 1 else 0) n
def m_first (B : Nat → Int32) (n : Nat) : Option Nat := y_fst (fun k => decide (m_t B k 3 = 2)) 0 n
def m_way (c : Int32) : Int32 := if c = 78 then 0 else if c = 69 then 1 else if c = 83 then 2 else if c = 87 then 3 else -1
def m_sign (w : Int32) : Int32 := if w = 0 then 78 else if w = 1 then 69 else if w = 2 then 83 else 87
def m_price (B : Nat → Int32) (h : Nat) : Int32 := B (9 + 2 * h)
def m_quan (B : Nat → Int32) (h : Nat) : Int32 := B (9 + 2 * h + 1)
def m_bids (B : Nat → Int32) : Int32 := y_sum (fun h => if 0 < m_price B h then 1 else 0) 24
theorem zb_nar (b : Bool) : narrow .boolean (.int (zb b)) = .int (zb b) := by cases b <;> rfl
theorem zb_0 {b : Bool} : zb b = 0 ↔ b = false := by cases b <;> simp [zb]
theorem zb_1 {b : Bool} : ¬ zb b = 0 ↔ b = true := by cases b <;> simp [zb]
theorem m_sign_nar (w : Int32) : narrow .char (.int (m_sign w)) = .int (m_sign w) := by
  unfold m_sign
  split
  · rfl
  · split
    · rfl
    · split <;> rfl
theorem y_fst_lt {p : Nat → Bool} : ∀ (f i j : Nat), y_fst p i f = some j → i ≤ j ∧ j < i + f ∧ p j = true
  | 0, i, j, h => by simp [y_fst] at h
  | f + 1, i, j, h => by
    by_cases hp : p i = true
    · simp [y_fst, hp] at h
      subst h
      exact ⟨Nat.le_refl _, by omega, hp⟩
    · simp [y_fst, hp] at h
      obtain ⟨h1, h2, h3⟩ := y_fst_lt f (i + 1) j h
      exact ⟨by omega, by omega, h3⟩
theorem m_at_lt {B : Nat → Int32} {n j : Nat} {r c : Int32} (h : m_at B n r c = some j) : j < n := by have := (y_fst_lt n 0 j h).2.1; omega
/-! the twin's changes: bad (1 no index, 2 bad argument), rejected (why, detail), or done (result, new row) -/
abbrev cR : Type := (Int32 × Int32) ⊕ (Int32 × (Nat → Int32))
abbrev cO : Type := Int32 ⊕ cR
def rej (g : Nat → Int32) (w d : Int32) : Nat → Int32 := upd (upd (upd g 5 w) 6 d) 7 0
def m_rej (b : Bool) (g : Nat → Int32) (w d : Int32) : Nat → Int32 := if b then rej g w d else g
def tBy (o : cO) : Int32 := match o with
  | .inl b => b
  | .inr (.inl _) => 3
  | .inr (.inr _) => 0
def tGo (g : Nat → Int32) (o : cO) : Nat → Int32 := match o with
  | .inl _ => g
  | .inr (.inl p) => rej g p.1 p.2
  | .inr (.inr p) => upd g 4 p.1
def tBo (B : Nat → Int32) (o : cO) : Nat → Int32 := match o with
  | .inl _ => B
  | .inr (.inl _) => B
  | .inr (.inr p) => p.2
def m_idx (n : Nat) (x : Int32) : Option Nat := if m_isT n x then some x.toNatClampNeg else none
theorem m_in_nI {k a b : Nat} (hk : k < 2 ^ 31) (ha : a < 2 ^ 31) (hb : b < 2 ^ 31) : m_in (nI k) (nI a) (nI b) = (decide (a ≤ k) && decide (k ≤ b)) := by
  unfold m_in
  rw [Bool.eq_iff_iff]
  simp only [Bool.and_eq_true, Bool.not_eq_true', decide_eq_false_iff_not, decide_eq_true_eq, nI_ltI hk ha, nI_ltI hb hk]
  omega
theorem m_isT_nI {n k : Nat} (hk : k < n) (hN : n ≤ 12) : m_isT n (nI k) = true := by
  unfold m_isT
  obtain ⟨j, rfl⟩ : ∃ j, n = j + 1 := ⟨n - 1, by omega⟩
  rw [nI_pred, show (0 : Int32) = nI 0 from rfl, m_in_nI (by omega) (by omega) (by omega)]
  simp; omega
theorem m_in_of {x : Int32} {b : Nat} (hb : b < 2 ^ 31) (h : m_in x 0 (nI b) = true) : ∃ k : Nat, k ≤ b ∧ x = nI k := by
  unfold m_in at h
  simp only [Bool.and_eq_true, Bool.not_eq_true', decide_eq_false_iff_not] at h
  obtain ⟨j, h1, rfl⟩ := nI_of h.1
  refine ⟨j, ?_, rfl⟩
  have := h.2
  rw [nI_ltI hb h1] at this
  omega
theorem m_isT_of {n : Nat} {x : Int32} (hN : n ≤ 12) (h : m_isT n x = true) : ∃ k : Nat, k < n ∧ x = nI k := by
  unfold m_isT at h
  cases n with
  | zero =>
    exfalso
    unfold m_in at h
    simp only [Bool.and_eq_true, Bool.not_eq_true', decide_eq_false_iff_not] at h
    obtain ⟨j, h1, rfl⟩ := nI_of h.1
    apply h.2
    rw [Int32.lt_iff_toInt_lt, nI_toInt h1]
    show (-1 : Int) < _
    omega
  | succ n =>
    rw [nI_pred] at h
    obtain ⟨k, h1, h2⟩ := m_in_of (by omega) h
    exact ⟨k, by omega, h2⟩
theorem m_isT_or (n : Nat) (x : Int32) (hN : n ≤ 12) : (m_isT n x = false ∧ m_idx n x = none) ∨ ∃ k : Nat, k < n ∧ x = nI k ∧ m_isT n x = true ∧ m_idx n x = some k := by
  by_cases h : m_isT n x = true
  · obtain ⟨k, h1, h2⟩ := m_isT_of hN h
    refine Or.inr ⟨k, h1, h2, h, ?_⟩
    unfold m_idx
    rw [if_pos h, h2, nI_clamp (by omega)]
  · refine Or.inl ⟨by simpa using h, ?_⟩
    unfold m_idx
    rw [if_neg h]
/-- an hour of the day, as a place -/
def m_hr (x : Int32) : Option Nat := if m_in x 0 23 then some x.toNatClampNeg else none
theorem m_hr_or (x : Int32) : (m_in x 0 23 = false ∧ m_hr x = none) ∨ ∃ k : Nat, k < 24 ∧ x = nI k ∧ m_in x 0 23 = true ∧ m_hr x = some k := by
  by_cases h : m_in x 0 23 = true
  · obtain ⟨k, h1, h2⟩ := m_in_of (b := 23) (by omega) h
    refine Or.inr ⟨k, by omega, h2, h, ?_⟩
    unfold m_hr
    rw [if_pos h, h2, nI_clamp (by omega)]
  · refine Or.inl ⟨by simpa using h, ?_⟩
    unfold m_hr
    rw [if_neg h]
/-- the row with a turbine more -/
def m_addB (B : Nat → Int32) (n : Nat) (r c q : Int32) : Nat → Int32 := fun j =>
  if j = 0 then nI (n + 1) else if j = 57 + 6 * n then r else if j = 57 + 6 * n + 1 then c else if j = 57 + 6 * n + 2 then q else if 57 + 6 * n ≤ j ∧ j < 57 + 6 * n + 6 then 0 else B j
def c_adds (B : Nat → Int32) (n : Nat) (r c q : Int32) : cR := if n = 12 then .inl (1, 12) else match m_at B n r c with
  | some j => .inl (2, nI j)
  | none => .inr (nI n, m_addB B n r c q)
def o_adds (B : Nat → Int32) (n : Nat) (r c q : Int32) : cO := if m_cell r c then (if m_in q 1 9 then .inr (c_adds B n r c q) else .inl 2) else .inl 1
def c_fails (B : Nat → Int32) (n k : Nat) : cR := if m_t B k 3 = 0 then
    .inr (m_inSt (upd (upd B (57 + 6 * k + 3) 1) (57 + 6 * k + 5) 0) n 1 + m_inSt (upd (upd B (57 + 6 * k + 3) 1) (57 + 6 * k + 5) 0) n 2, upd (upd B (57 + 6 * k + 3) 1) (57 + 6 * k + 5) 0)
  else .inl (3, m_t B k 4)
def o_fails (B : Nat → Int32) (n : Nat) (x : Int32) : cO := match m_idx n x with
  | none => .inl 1
  | some k => .inr (c_fails B n k)
def c_sends (B : Nat → Int32) (n k : Nat) (h : Int32) : cR := if m_t B k 3 = 1 then
    (if m_inSt B n 2 = 2 then .inl (5, m_o0 (m_first B n)) else .inr (2 - m_inSt (upd (upd B (57 + 6 * k + 3) 2) (57 + 6 * k + 4) h) n 2, upd (upd B (57 + 6 * k + 3) 2) (57 + 6 * k + 4) h))
  else .inl (4, m_out B n k)
def o_sends (B : Nat → Int32) (n : Nat) (x h : Int32) : cO := match m_idx n x with
  | none => .inl 1
  | some k => if m_in h 1 12 then .inr (c_sends B n k h) else .inl 2
def c_recalls (B : Nat → Int32) (n k : Nat) : cR := if m_t B k 3 = 2 then .inr (m_t B k 4, upd (upd B (57 + 6 * k + 3) 1) (57 + 6 * k + 4) 0) else .inl (6, m_out B n k)
def o_recalls (B : Nat → Int32) (n : Nat) (x : Int32) : cO := match m_idx n x with
  | none => .inl 1
  | some k => .inr (c_recalls B n k)
def c_curtails (B : Nat → Int32) (n k : Nat) (l : Int32) : cR := if m_t B k 3 = 0 then .inr (m_out (upd B (57 + 6 * k + 5) (l + 1)) n k, upd B (57 + 6 * k + 5) (l + 1)) else .inl (3, m_t B k 4)
def o_curtails (B : Nat → Int32) (n : Nat) (x l : Int32) : cO := match m_idx n x with
  | none => .inl 1
  | some k => if m_in l 0 90 then .inr (c_curtails B n k l) else .inl 2
def c_releases (B : Nat → Int32) (n k : Nat) : cR := if m_t B k 3 = 0 then (if m_t B k 5 = 0 then .inl (7, m_out B n k) else .inr (m_out (upd B (57 + 6 * k + 5) 0) n k, upd B (57 + 6 * k + 5) 0)) else .inl (3, m_t B k 4)
def o_releases (B : Nat → Int32) (n : Nat) (x : Int32) : cO := match m_idx n x with
  | none => .inl 1
  | some k => .inr (c_releases B n k)
def c_blows (B : Nat → Int32) (n : Nat) (w s : Int32) : cR := .inr (m_total (upd (upd B 1 w) 2 s) n, upd (upd B 1 w) 2 s)
def o_blows (B : Nat → Int32) (n : Nat) (w s : Int32) : cO := if w < 0 then .inl 2 else if m_in s 0 30 then .inr (c_blows B n w s) else .inl 2
def c_limits (B : Nat → Int32) (l : Int32) : cR := .inr (B 3, upd B 3 l)
def o_limits (B : Nat → Int32) (l : Int32) : cO := if m_in l 0 999 then .inr (c_limits B l) else .inl 2
def c_places (B : Nat → Int32) (h : Nat) (p q : Int32) : cR := if 0 < m_price B h then .inl (8, m_price B h) else .inr (m_bids (upd (upd B (9 + 2 * h) p) (9 + 2 * h + 1) q), upd (upd B (9 + 2 * h) p) (9 + 2 * h + 1) q)
def o_places (B : Nat → Int32) (x p q : Int32) : cO := match m_hr x with
  | none => .inl 1
  | some h => if m_in p 1 50 && m_in q 1 500 then .inr (c_places B h p q) else .inl 2
def c_withdraws (B : Nat → Int32) (h : Nat) : cR := if m_price B h = 0 then .inl (9, m_bids B) else .inr (m_quan B h, upd (upd B (9 + 2 * h) 0) (9 + 2 * h + 1) 0)
def o_withdraws (B : Nat → Int32) (x : Int32) : cO := match m_hr x with
  | none => .inl 1
  | some h => .inr (c_withdraws B h)
/-- rows -/
def sRow (Bs : Nat → Nat → Int32) (j : Nat) (R : Nat → Int32) : Nat → Nat → Int32 := fun b => if b = j then R else Bs b
def tPush (Bs : Nat → Nat → Int32) (c : Nat) : Nat → Nat → Int32 := if c = 8 then (fun b => if 1 ≤ b ∧ b < 8 then Bs (b + 1) else if b = 8 then Bs 10 else Bs b) else sRow Bs (c + 1) (Bs 10)
theorem arrV_ext {cA : ClassId} {n : Nat} {f f' : Nat → Value} (h : ∀ j : Nat, j < n → f j = f' j) : arrV cA n f = arrV cA n f' := by
  unfold arrV
  congr 1
  apply Array.ext
  · simp
  · intro i h1 h2
    simp at h1
    simpa using h i h1
theorem tG_ext {B B' : Nat → Int32} {Bs Bs' : Nat → Nat → Int32} (h : ∀ k : Nat, k < 129 → B k = B' k) (hs : ∀ b k : Nat, 0 < b → b < 12 → k < 129 → Bs b k = Bs' b k) {j : Nat} (hj : j < 1548) : tG B Bs j = tG B' Bs' j := by
  unfold tG
  by_cases e : j < 129
  · rw [if_pos e, if_pos e, h j e]
  · rw [if_neg e, if_neg e, hs (j / 129) (j % 129) (by omega) (by omega) (by omega)]
theorem tW.rows {z : State} {D : yD} {m : Nat → Nat} {g B B' : Nat → Int32} {Bs Bs' : Nat → Nat → Int32} {L I C : Nat → Int32} {H : Heap} (hW : tW z D m g B Bs L I C H) (h : ∀ k : Nat, k < 129 → B k = B' k) (hs : ∀ b k : Nat, 0 < b → b < 12 → k < 129 → Bs b k = Bs' b k) : tW z D m g B' Bs' L I C H := by
  obtain ⟨h0, h1, h2⟩ := hW
  refine ⟨h0, ?_, h2⟩
  unfold yA at h1 ⊢
  rw [h1, vp_cell_i, vp_cell_i]
  exact congrArg some (arrV_ext fun j hj => congrArg Value.int (tG_ext h hs hj))
theorem upd_ne {f : Nat → Int32} {k j : Nat} {x : Int32} (h : j ≠ k) : upd f k x j = f j := pk_un h
/-- rows copied in part -/
def cpR (Bs : Nat → Nat → Int32) (j : Nat) (R : Nat → Int32) (k : Nat) : Nat → Nat → Int32 := fun b q => if b = j ∧ q < k then R q else Bs b q
def cpB (B R : Nat → Int32) (k : Nat) : Nat → Int32 := fun q => if q < k then R q else B q
theorem cpR_0 (Bs : Nat → Nat → Int32) (j : Nat) (R : Nat → Int32) : cpR Bs j R 0 = Bs := by funext b q; simp [cpR]
theorem cpB_0 (B R : Nat → Int32) : cpB B R 0 = B := by funext q; simp [cpB]
theorem cpR_s (Bs : Nat → Nat → Int32) (j : Nat) (R : Nat → Int32) (k : Nat) : (fun b' k' => if b' = j ∧ k' = k then R k else cpR Bs j R k b' k') = cpR Bs j R (k + 1) := by
  funext b q
  unfold cpR
  by_cases h1 : b = j
  · by_cases h2 : q = k
    · subst h2; simp [h1]
    · by_cases h3 : q < k
      · rw [if_neg (by omega), if_pos ⟨h1, h3⟩, if_pos ⟨h1, by omega⟩]
      · rw [if_neg (by omega), if_neg (by omega), if_neg (by omega)]
  · simp [h1]
theorem cpR_s2 (Bs : Nat → Nat → Int32) (i j k : Nat) (hij : i ≠ j) : (fun b' k' => if b' = j ∧ k' = k then cpR Bs j (Bs i) k i k else cpR Bs j (Bs i) k b' k') = cpR Bs j (Bs i) (k + 1) := by
  have h : cpR Bs j (Bs i) k i k = Bs i k := by simp [cpR]
  rw [h]
  exact cpR_s Bs j (Bs i) k
theorem cpB_s (B R : Nat → Int32) (k : Nat) : upd (cpB B R k) k (R k) = cpB B R (k + 1) := by
  funext q
  unfold cpB upd
  by_cases h2 : q = k
  · subst h2; simp
  · by_cases h3 : q < k
    · rw [if_neg h2]; dsimp only; rw [if_pos h3, if_pos (by omega)]
    · rw [if_neg h2]; dsimp only; rw [if_neg h3, if_neg (by omega)]
theorem cpR_e (Bs : Nat → Nat → Int32) (j : Nat) (R : Nat → Int32) (b q : Nat) (hq : q < 129) : cpR Bs j R 129 b q = sRow Bs j R b q := by
  unfold cpR sRow
  by_cases h : b = j
  · rw [if_pos ⟨h, hq⟩, if_pos h]
  · rw [if_neg (fun x => h x.1), if_neg h]
theorem cpB_e (B R : Nat → Int32) (q : Nat) (hq : q < 129) : cpB B R 129 q = R q := by
  unfold cpB
  rw [if_pos hq]
/-- the ends of a change: what is thrown, the answer, the object, the rows -/
def tThr (by_ a b r : Int32) : Int32 := if by_ = 1 then a else if by_ = 2 then b else if by_ = 3 then r else 0
def e_r (g : Nat → Int32) (t : Int32) : Int32 := if t = 0 then g 4 else 0
def e_g (g : Nat → Int32) (t : Int32) (c : Nat) : Nat → Int32 := if t = 0 then upd (upd g 0 0) 2 (nI (if c = 8 then 8 else c + 1)) else upd g 0 t
def e_B (B : Nat → Int32) (Bs : Nat → Nat → Int32) (t : Int32) : Nat → Int32 := if t = 0 then B else Bs 10
def e_Bs (Bs : Nat → Nat → Int32) (t : Int32) (c : Nat) : Nat → Nat → Int32 := if t = 0 then tPush Bs c else Bs
def shR (Bs : Nat → Nat → Int32) (k : Nat) : Nat → Nat → Int32 := fun b => if 1 ≤ b ∧ b < k then Bs (b + 1) else Bs b
theorem shR_1 (Bs : Nat → Nat → Int32) : shR Bs 1 = Bs := by
  funext b
  unfold shR
  rw [if_neg (by omega)]
theorem shR_s (Bs : Nat → Nat → Int32) {k : Nat} (hk : 1 ≤ k) : sRow (shR Bs k) k (shR Bs k (k + 1)) = shR Bs (k + 1) := by
  funext b
  unfold sRow shR
  by_cases h : b = k
  · subst h; rw [if_pos rfl, if_neg (by omega), if_pos (by omega)]
  · rw [if_neg h]
    by_cases h2 : 1 ≤ b ∧ b < k
    · rw [if_pos h2, if_pos (by omega)]
    · rw [if_neg h2, if_neg (by omega)]
theorem shR_8 (Bs : Nat → Nat → Int32) : sRow (shR Bs 8) 8 (shR Bs 8 10) = tPush Bs 8 := by
  have h10 : shR Bs 8 10 = Bs 10 := by unfold shR; rw [if_neg (by omega)]
  rw [h10]
  funext b
  show (if b = 8 then Bs 10 else if 1 ≤ b ∧ b < 8 then Bs (b + 1) else Bs b) = (if 1 ≤ b ∧ b < 8 then Bs (b + 1) else if b = 8 then Bs 10 else Bs b)
  by_cases h : b = 8
  · rw [if_pos h, if_neg (by omega), if_pos h]
  · rw [if_neg h]
    by_cases h2 : 1 ≤ b ∧ b < 8
    · rw [if_pos h2, if_pos h2]
    · rw [if_neg h2, if_neg h2, if_neg h]
theorem upd_upd (f : Nat → Int32) (k : Nat) (x y : Int32) : upd (upd f k x) k y = upd f k y := by
  funext j
  unfold upd
  by_cases h : j = k
  · simp [h]
  · simp [h]
/-- a turbine's six ints cleared in part -/
def a_clr (B : Nat → Int32) (n i : Nat) : Nat → Int32 := fun j => if 57 + 6 * n ≤ j ∧ j < 57 + 6 * n + i then 0 else B j
theorem a_clr_0 (B : Nat → Int32) (n : Nat) : a_clr B n 0 = B := by
  funext j
  unfold a_clr
  rw [if_neg (by omega)]
theorem a_clr_s (B : Nat → Int32) (n i : Nat) : upd (a_clr B n i) (57 + 6 * n + i) 0 = a_clr B n (i + 1) := by
  funext j
  unfold upd a_clr
  by_cases h : j = 57 + 6 * n + i
  · rw [if_pos h, if_pos (by omega)]
  · rw [if_neg h]
    by_cases h2 : 57 + 6 * n ≤ j ∧ j < 57 + 6 * n + i
    · rw [if_pos h2, if_pos (by omega)]
    · rw [if_neg h2, if_neg (by omega)]
theorem m_addB_e (B : Nat → Int32) (n : Nat) (r c q : Int32) : upd (upd (upd (a_clr (upd B 0 (nI (n + 1))) n 6) (57 + 6 * n + 0) r) (57 + 6 * n + 1) c) (57 + 6 * n + 2) q = m_addB B n r c q := by
  funext j
  unfold upd a_clr m_addB
  dsimp only
  by_cases h0 : j = 0
  · rw [if_neg (by omega), if_neg (by omega), if_neg (by omega), if_neg (by omega), if_pos h0, if_pos h0]
  · by_cases h1 : j = 57 + 6 * n
    · rw [if_neg (by omega), if_neg (by omega), if_pos (by omega), if_neg h0, if_pos h1]
    · by_cases h2 : j = 57 + 6 * n + 1
      · rw [if_neg (by omega), if_pos h2, if_neg h0, if_neg h1, if_pos h2]
      · by_cases h3 : j = 57 + 6 * n + 2
        · rw [if_pos h3, if_neg h0, if_neg h1, if_neg h2, if_pos h3]
        · rw [if_neg h3, if_neg h2, if_neg (by omega), if_neg h0, if_neg h0, if_neg h1, if_neg h2, if_neg h3]
theorem nI_12 {n : Nat} (h : n ≤ 12) : nI n = 12 ↔ n = 12 := by
  rw [show (12 : Int32) = nI 12 from rfl]
  exact nI_eq (by omega) (by omega)
theorem nI_8 {n : Nat} (h : n ≤ 8) : nI n = 8 ↔ n = 8 := by
  rw [show (8 : Int32) = nI 8 from rfl]
  exact nI_eq (by omega) (by omega)

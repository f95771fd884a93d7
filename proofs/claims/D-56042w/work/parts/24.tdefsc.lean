/-! the twin's questions, its texts and its commands: pictures -/
set_option maxRecDepth 100000
abbrev eD : UInt64 → Option Value := fun r => some (.double r)
abbrev eF : UInt32 → Option Value := fun r => some (.float r)
section YD
variable {E : yE} {z : State} {D : yD} {A : Nat → Prop} {own : String} {cc : ByteArray} {nL0 : Nat} {d mc ms : Nat} {H : Heap} {kc kn : Nat} {pc : Nat} {ls : Array Slot}
theorem y_dret {post : UInt64 → Heap → Prop} {mc' ms' : Nat} (hE : yOk E z D A own cc nL0 (some .double) d mc ms) {r : UInt64} (hdg : decode cc pc = .ok (.dreturn, 1)) (hp : post r H) (hc : kc ≤ mc') (hn : kn ≤ ms') : yY E A H kc kn (yEm E eD post mc' ms' A) pc ls [.double r] :=
  fun _ hS => W.widen hc hn (W.dret hE.1 hE.2.1 hE.rt (fun t ht _ => ⟨⟨r, rfl, by rw [ht]; exact hp⟩, hS.F ht⟩) hS.2.2 hdg hE.locks)
theorem y_fret {post : UInt32 → Heap → Prop} {mc' ms' : Nat} (hE : yOk E z D A own cc nL0 (some .float) d mc ms) {r : UInt32} (hdg : decode cc pc = .ok (.freturn, 1)) (hp : post r H) (hc : kc ≤ mc') (hn : kn ≤ ms') : yY E A H kc kn (yEm E eF post mc' ms' A) pc ls [.float r] :=
  fun _ hS => W.widen hc hn (W.fret hE.1 hE.2.1 hE.rt (fun t ht _ => ⟨⟨r, rfl, by rw [ht]; exact hp⟩, hS.F ht⟩) hS.2.2 hdg hE.locks)
end YD
/-- an answer and what is thrown -/
def q_i (o : Option Nat) (f : Nat → Int32) : Int32 × Int32 := match o with
  | none => (0, 1)
  | some k => (f k, 0)
def q_b (o : Option Nat) (f : Nat → Bool) : Bool × Int32 := match o with
  | none => (false, 1)
  | some k => (f k, 0)
def q_2 (o : Option Nat) (p : Nat → Bool) (f : Nat → Int32) : Int32 × Int32 := match o with
  | none => (0, 1)
  | some k => if p k then (0, 2) else (f k, 0)
def q_at (B : Nat → Int32) (n : Nat) (r c : Int32) : Int32 × Int32 := if m_cell r c then (match m_at B n r c with
  | none => (0, 2)
  | some k => (nI k, 0)) else (0, 1)
def q_w (B : Nat → Int32) (n : Nat) (w s : Int32) : Int32 × Int32 := if 0 ≤ m_way w ∧ m_in s 0 30 = true then (m_with B n (m_way w) s, 0) else (0, 1)
def q_inc (B : Nat → Int32) (n t : Nat) (x : Int32) : Int32 × Int32 := match m_48 x with
  | none => (0, 1)
  | some k => (m_hours B n t k 8 - B 8, 0)
def q_incB (B : Nat → Int32) (Bs : Nat → Nat → Int32) (x : Int32) : Nat → Nat → Int32 := match m_48 x with
  | none => Bs
  | some _ => sRow Bs 11 B
def q_mean (B : Nat → Int32) (n : Nat) : UInt64 := if 0 < B 0 then FP.ddiv (FP.i2d (m_total B n)) (FP.i2d (B 0)) else FP.dconst0
def q_share (B : Nat → Int32) (n : Nat) : UInt32 := if 0 < B 0 then FP.fdiv (FP.i2f (m_inSt B n 0)) (FP.i2f (B 0)) else FP.fconst0
/-- signs put into a line -/
def tAp (L : Nat → Int32) (s : Nat) : List Int32 → Nat → Int32
  | [] => L
  | c :: cs => tAp (upd L s c) (s + 1) cs
theorem tAp_app (L : Nat → Int32) (s : Nat) (a b : List Int32) : tAp (tAp L s a) (s + a.length) b = tAp L s (a ++ b) := by
  induction a generalizing L s with
  | nil => rfl
  | cons c cs ih =>
    show tAp (tAp (upd L s c) (s + 1) cs) (s + (cs.length + 1)) b = tAp (upd L s c) (s + 1) (cs ++ b)
    rw [← ih, show s + (cs.length + 1) = s + 1 + cs.length by omega]
/-- the signs of a number under 100 -/
def dg1 (v : Nat) : List Int32 := [nI (48 + v % 10)]
def dg2 (v : Nat) : List Int32 := if v ≤ 9 then dg1 v else dg1 (v / 10) ++ dg1 v
theorem dg1_len (v : Nat) : (dg1 v).length = 1 := rfl
theorem dg2_len (v : Nat) : (dg2 v).length ≤ 2 := by
  unfold dg2
  split
  · exact Nat.le_of_ble_eq_true rfl
  · exact Nat.le_of_ble_eq_true rfl
/-- the line: its signs and how many -/
def lG (g : Nat → Int32) (s : Nat) : Nat → Int32 := upd g 9 (nI s)
theorem lG_9 (g : Nat → Int32) (s : Nat) : lG g s 9 = nI s := rfl
theorem lG_u (g : Nat → Int32) (s s' : Nat) : upd (lG g s) 9 (nI s') = lG g s' := upd_upd _ _ _ _
theorem nI_sub {a b : Nat} (h : b ≤ a) (ha : a < 2 ^ 31) : nI a - nI b = nI (a - b) := by
  rw [← Int32.toInt_inj, Int32.toInt_sub, nI_toInt ha, nI_toInt (by omega), nI_toInt (by omega)]
  rw [show ((a - b : Nat) : Int) = (a : Int) - (b : Int) by omega]
  exact Int.bmod_eq_of_le (by omega) (by omega)
theorem nI_div10 {v : Nat} (hv : v < 2 ^ 31) : nI v / 10 = nI (v / 10) := by
  rw [show (10 : Int32) = nI 10 from rfl, ← Int32.toInt_inj, nI_toInt (by omega), Int32.toInt_div, nI_toInt hv, nI_toInt (by omega)]
  rw [Int.tdiv_eq_ediv_of_nonneg (by omega)]
  have e : ((v : Int) / ((10 : Nat) : Int)) = ((v / 10 : Nat) : Int) := by omega
  rw [e]
  exact Int.bmod_eq_of_le (by omega) (by omega)
theorem nI_mod10 {v : Nat} (hv : v < 2 ^ 31) : nI v - nI v / 10 * 10 = nI (v % 10) := by
  rw [nI_div10 hv, show (10 : Int32) = nI 10 from rfl, pk_mul, nI_sub (by omega) hv]
  congr 1
  omega
/-- what writeTurbine writes -/
def m_text (B : Nat → Int32) (k row col rated out lim st hrs : Nat) : List Int32 :=
  ((((((dg2 k ++ (64 :: dg2 row)) ++ (44 :: dg2 col)) ++ (112 :: dg2 rated)) ++ (61 :: dg2 out)) ++ (if 0 < lim then 60 :: dg2 (lim - 1) else [])) ++ (if st = 1 then [120] else [])) ++ (if st = 2 then 115 :: dg2 hrs else [])
/-! the commands -/
abbrev pS : Type := Nat × Option Nat × Nat
abbrev pS.h (p : pS) : Nat := p.1
abbrev pS.e (p : pS) : Option Nat := p.2.1
abbrev pS.c (p : pS) : Nat := p.2.2
def pG (g : Nat → Int32) (p : pS) : Nat → Int32 := upd (upd (upd g 12 (nI p.h)) 13 (m_o p.e)) 16 (nI p.c)
theorem pG_h (g : Nat → Int32) (p : pS) (h : Nat) : upd (pG g p) 12 (nI h) = pG g ⟨h, p.e, p.c⟩ := by
  funext j
  unfold pG upd
  by_cases h1 : j = 12
  · subst h1; rfl
  · simp [h1]
theorem pG_e (g : Nat → Int32) (p : pS) (h : Nat) : upd (pG g p) 13 (nI h) = pG g ⟨p.h, some h, p.c⟩ := by
  funext j
  unfold pG upd
  by_cases h1 : j = 13
  · subst h1; rfl
  · simp [h1]
theorem pG_c (g : Nat → Int32) (p : pS) (h : Nat) : upd (pG g p) 16 (nI h) = pG g ⟨p.h, p.e, h⟩ := upd_upd _ _ _ _
theorem pG_0 (g : Nat → Int32) : upd (upd (upd g 12 0) 13 (-1)) 16 0 = pG g ⟨0, none, 0⟩ := rfl
theorem m_o_lt {o : Option Nat} (h : ∀ k : Nat, o = some k → k < 2 ^ 31) : (m_o o < 0) ↔ o = none := by
  cases o with
  | none => simp [m_o]
  | some k =>
    simp only [reduceCtorEq, iff_false, m_o, Int32.not_lt]
    exact Int32.not_lt.mp (nI_pos (h k rfl))
def m_sg (I : Nat → Int32) (t h : Nat) : Int32 := if h < t then I h else -1
def m_dig (x : Int32) : Bool := m_in x 48 57
def p_need (I : Nat → Int32) (t : Nat) (c : Int32) (p : pS) : pS := match p.e with
  | some _ => p
  | none => if m_sg I t p.h = c then ⟨p.h + 1, none, p.c⟩ else ⟨p.h, some p.h, p.c⟩
def m_num (I : Nat → Int32) (t : Nat) : Nat → Nat → Int32 → Nat × Int32
  | 0, h, v => (h, v)
  | d + 1, h, v => if m_dig (m_sg I t h) then m_num I t d (h + 1) (10 * v + m_sg I t h - 48) else (h, v)
def p_num (I : Nat → Int32) (t d : Nat) (p : pS) : Int32 × pS := match p.e with
  | some _ => (0, p)
  | none => if m_dig (m_sg I t p.h) then ((m_num I t d p.h 0).2, ⟨(m_num I t d p.h 0).1, none, p.c⟩) else (0, ⟨p.h, some p.h, p.c⟩)
def p_beh (I : Nat → Int32) (t : Nat) (c : Int32) (p : pS) : Int32 × pS := p_num I t 3 (p_need I t c p)
def p_way (I : Nat → Int32) (t : Nat) (p : pS) : Int32 × pS := if m_way (m_sg I t p.h) < 0 then (0, ⟨p.h, some p.h, p.c⟩) else (m_way (m_sg I t p.h), ⟨p.h + 1, p.e, p.c⟩)
def m_let (x : Int32) : Bool := x == 97 || x == 102 || x == 115 || x == 114 || x == 99 || x == 117 || x == 119 || x == 103 || x == 100 || x == 118 || x == 98 || x == 113 || x == 116
def p_args (I : Nat → Int32) (t : Nat) (k : Int32) (p : pS) : (Int32 × Int32 × Int32) × pS :=
  if k = 100 ∨ k = 118 then ((0, 0, 0), p)
  else if k = 97 then (((p_num I t 1 p).1, (p_num I t 1 (p_num I t 1 p).2).1, (p_num I t 1 (p_num I t 1 (p_num I t 1 p).2).2).1), (p_num I t 1 (p_num I t 1 (p_num I t 1 p).2).2).2)
  else if k = 119 then (((p_way I t p).1, (p_num I t 3 (p_way I t p).2).1, 0), (p_num I t 3 (p_way I t p).2).2)
  else if k = 115 ∨ k = 99 then (((p_num I t 3 p).1, (p_beh I t 58 (p_num I t 3 p).2).1, 0), (p_beh I t 58 (p_num I t 3 p).2).2)
  else if k = 98 then (((p_num I t 3 p).1, (p_beh I t 58 (p_num I t 3 p).2).1, (p_beh I t 42 (p_beh I t 58 (p_num I t 3 p).2).2).1), (p_beh I t 42 (p_beh I t 58 (p_num I t 3 p).2).2).2)
  else (((p_num I t 3 p).1, 0, 0), (p_num I t 3 p).2)
def c4 (C : Nat → Int32) (o : Nat) (k a b c : Int32) : Nat → Int32 := fun j => if j = o then k else if j = o + 1 then a else if j = o + 2 then b else if j = o + 3 then c else C j
def p_cmd (I : Nat → Int32) (t : Nat) (p : pS) : (Int32 × Int32 × Int32 × Int32) × pS :=
  if m_let (m_sg I t p.h) then ((m_sg I t p.h, (p_args I t (m_sg I t p.h) ⟨p.h + 1, p.e, p.c + 1⟩).1), (p_args I t (m_sg I t p.h) ⟨p.h + 1, p.e, p.c + 1⟩).2)
  else ((0, 0, 0, 0), ⟨p.h, some p.h, p.c + 1⟩)
def p_cmdC (I : Nat → Int32) (t : Nat) (p : pS) (C : Nat → Int32) : Nat → Int32 := c4 C (4 * p.c) (p_cmd I t p).1.1 (p_cmd I t p).1.2.1 (p_cmd I t p).1.2.2.1 (p_cmd I t p).1.2.2.2
/-- the commands after i more -/
def p_it (I : Nat → Int32) (t : Nat) : Nat → pS × (Nat → Int32) → pS × (Nat → Int32)
  | 0, x => x
  | i + 1, x => ((p_cmd I t ⟨(p_it I t i x).1.h + 1, (p_it I t i x).1.e, (p_it I t i x).1.c⟩).2, p_cmdC I t ⟨(p_it I t i x).1.h + 1, (p_it I t i x).1.e, (p_it I t i x).1.c⟩ (p_it I t i x).2)
def p_more (I : Nat → Int32) (t : Nat) (p : pS) : Bool := decide (p.e = none) && decide (m_sg I t p.h = 59)
def p_fin (t : Nat) (p : pS) : pS := match p.e with
  | some _ => p
  | none => if p.h < t then ⟨p.h, some p.h, p.c⟩ else p

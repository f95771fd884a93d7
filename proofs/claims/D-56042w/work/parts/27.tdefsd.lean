/-! the twin's texts and commands: laws of their pictures -/
set_option maxRecDepth 100000
theorem nIp {c : Nat} (h : 0 < nI c) : 0 < c := by
  cases c with
  | zero => exact absurd h (by decide)
  | succ c => omega
theorem nIz {c : Nat} (h : nI c ≤ 0) (hc : c < 2 ^ 31) : c = 0 := by
  cases c with
  | zero => rfl
  | succ c => exact absurd h (nI_nle (by omega) hc)
theorem ch_nar {q : Nat} (hq : q < 65536) : vp_nar .char (nI q) = nI q := by
  unfold vp_nar
  rw [(pk_charN hq).1]
theorem ch_i2c {q : Nat} (hq : q < 65536) : ((nI q).toUInt32 % 65536).toInt32 = nI q := by
  rw [pk_char]
  congr 1
  show (BitVec.ofNat 32 q).toNat % 65536 = q
  rw [BitVec.toNat_ofNat]
  omega
theorem m_isT_or40 (n : Nat) (x : Int32) (hN : n ≤ 40) : (m_isT n x = false ∧ m_idx n x = none) ∨ ∃ k : Nat, k < n ∧ x = nI k ∧ m_isT n x = true ∧ m_idx n x = some k := by
  by_cases h : m_isT n x = true
  · have h' : ∃ k : Nat, k < n ∧ x = nI k := by
      have h := h
      unfold m_isT at h
      cases n with
      | zero =>
        exfalso
        unfold m_in at h
        simp only [Bool.and_eq_true, Bool.not_eq_true', decide_eq_false_iff_not] at h
        obtain ⟨j, h1, rfl⟩ := nI_of h.1
        apply h.2
        rw [Int32.lt_iff_toInt_lt, nI_toInt h1]
        show (-1 : Int) < _
        omega
      | succ n =>
        rw [nI_pred] at h
        obtain ⟨k, h1, h2⟩ := m_in_of (by omega) h
        exact ⟨k, by omega, h2⟩
    obtain ⟨k, h1, h2⟩ := h'
    refine Or.inr ⟨k, h1, h2, h, ?_⟩
    unfold m_idx
    rw [if_pos h, h2, nI_clamp (by omega)]
  · refine Or.inl ⟨by simpa using h, ?_⟩
    unfold m_idx
    rw [if_neg h]
/-- a sign that may be typed -/
def m_chr (x : Int32) : Option Nat := if m_in x 32 126 then some x.toNatClampNeg else none
theorem m_chr_or (x : Int32) : (m_in x 32 126 = false ∧ m_chr x = none) ∨ ∃ k : Nat, k < 127 ∧ x = nI k ∧ m_in x 32 126 = true ∧ m_chr x = some k := by
  by_cases h : m_in x 32 126 = true
  · have h0 : m_in x 0 (nI 126) = true := by
      unfold m_in at h ⊢
      simp only [Bool.and_eq_true, Bool.not_eq_true', decide_eq_false_iff_not] at h ⊢
      refine ⟨fun hl => h.1 ?_, h.2⟩
      rw [Int32.lt_iff_toInt_lt] at hl ⊢
      have : (32 : Int32).toInt = 32 := rfl
      have : (0 : Int32).toInt = 0 := rfl
      omega
    obtain ⟨k, h1, h2⟩ := m_in_of (b := 126) (by omega) h0
    refine Or.inr ⟨k, by omega, h2, h, ?_⟩
    unfold m_chr
    rw [if_pos h, h2, nI_clamp (by omega)]
  · refine Or.inl ⟨by simpa using h, ?_⟩
    unfold m_chr
    rw [if_neg h]
/-- what typing a sign throws -/
def a_thr (x : Int32) (t : Nat) : Int32 := match m_chr x with
  | none => 1
  | some _ => if t = 60 then 2 else 0
theorem nI_60 {n : Nat} (h : n ≤ 60) : nI n = 60 ↔ n = 60 := by
  rw [show (60 : Int32) = nI 60 from rfl]
  exact nI_eq (by omega) (by omega)
theorem m_num_0 (I : Nat → Int32) (t d h : Nat) (v : Int32) : m_num I t (d - d) h v = (h, v) := by rw [Nat.sub_self]; rfl
theorem m_num_n {I : Nat → Int32} {t d i h : Nat} {v : Int32} (hi : i < d) (hd : m_dig (m_sg I t h) = false) : m_num I t (d - i) h v = (h, v) := by
  rw [show d - i = (d - (i + 1)) + 1 by omega]
  simp [m_num, hd]
theorem m_num_y {I : Nat → Int32} {t d i h : Nat} {v : Int32} (hi : i < d) (hd : m_dig (m_sg I t h) = true) : m_num I t (d - i) h v = m_num I t (d - (i + 1)) (h + 1) (10 * v + m_sg I t h - 48) := by
  rw [show d - i = (d - (i + 1)) + 1 by omega]
  simp [m_num, hd]
def m_nv (I : Nat → Int32) (t h : Nat) : Nat → Int32
  | 0 => 0
  | i + 1 => 10 * m_nv I t h i + m_sg I t (h + i) - 48
theorem m_num_h (I : Nat → Int32) (t : Nat) : ∀ (d h : Nat) (v : Int32), (m_num I t d h v).1 ≤ h + d
  | 0, h, v => Nat.le_refl _
  | d + 1, h, v => by
    unfold m_num
    split
    · have := m_num_h I t d (h + 1) (10 * v + m_sg I t h - 48)
      omega
    · show h ≤ _
      omega
theorem p_num_h (I : Nat → Int32) (t d : Nat) (p : pS) : (p_num I t d p).2.1 ≤ p.1 + d := by
  obtain ⟨h, e, c⟩ := p
  unfold p_num
  cases e with
  | some e => exact Nat.le_add_right _ _
  | none =>
    dsimp only
    split
    · exact m_num_h I t d h 0
    · exact Nat.le_add_right _ _
theorem p_need_h (I : Nat → Int32) (t : Nat) (x : Int32) (p : pS) : (p_need I t x p).1 ≤ p.1 + 1 := by
  obtain ⟨h, e, c⟩ := p
  unfold p_need
  cases e with
  | some e => exact Nat.le_add_right _ _
  | none =>
    dsimp only
    split
    · exact Nat.le_refl _
    · exact Nat.le_add_right _ _
theorem p_way_h (I : Nat → Int32) (t : Nat) (p : pS) : (p_way I t p).2.1 ≤ p.1 + 1 := by
  unfold p_way
  split
  · exact Nat.le_add_right _ _
  · exact Nat.le_refl _
theorem p_beh_h (I : Nat → Int32) (t : Nat) (x : Int32) (p : pS) : (p_beh I t x p).2.1 ≤ p.1 + 4 := by
  have h1 := p_num_h I t 3 (p_need I t x p)
  have h2 := p_need_h I t x p
  unfold p_beh
  omega
/-- a command's cells cleared in part -/
def a_z (C : Nat → Int32) (o k : Nat) : Nat → Int32 := fun j => if o ≤ j ∧ j < o + k then 0 else C j
theorem a_z_0 (C : Nat → Int32) (o : Nat) : a_z C o 0 = C := by
  funext j
  unfold a_z
  rw [if_neg (by omega)]
theorem a_z_s (C : Nat → Int32) (o k : Nat) : upd (a_z C o k) (o + k) 0 = a_z C o (k + 1) := by
  funext j
  unfold upd a_z
  by_cases h : j = o + k
  · rw [if_pos h, if_pos (by omega)]
  · rw [if_neg h]
    by_cases h2 : o ≤ j ∧ j < o + k
    · rw [if_pos h2, if_pos (by omega)]
    · rw [if_neg h2, if_neg (by omega)]
theorem c4_z (C : Nat → Int32) (o : Nat) : a_z C o 4 = c4 C o 0 0 0 0 := by
  funext j
  unfold a_z c4
  by_cases h0 : j = o
  · rw [if_pos (by omega), if_pos h0]
  · by_cases h1 : j = o + 1
    · rw [if_pos (by omega), if_neg h0, if_pos h1]
    · by_cases h2 : j = o + 2
      · rw [if_pos (by omega), if_neg h0, if_neg h1, if_pos h2]
      · by_cases h3 : j = o + 3
        · rw [if_pos (by omega), if_neg h0, if_neg h1, if_neg h2, if_pos h3]
        · rw [if_neg (by omega), if_neg h0, if_neg h1, if_neg h2, if_neg h3]
theorem c4_k (C : Nat → Int32) (o : Nat) (k a b c x : Int32) : upd (c4 C o k a b c) o x = c4 C o x a b c := by
  funext j
  unfold upd c4
  by_cases h : j = o
  · rw [if_pos h, if_pos h]
  · rw [if_neg h, if_neg h, if_neg h]
theorem c4_1 (C : Nat → Int32) (o : Nat) (k a b c x : Int32) : upd (c4 C o k a b c) (o + 1) x = c4 C o k x b c := by
  funext j
  unfold upd c4
  by_cases h : j = o + 1
  · rw [if_pos h, if_neg (by omega), if_pos h]
  · rw [if_neg h, if_neg h, if_neg h]
theorem c4_2 (C : Nat → Int32) (o : Nat) (k a b c x : Int32) : upd (c4 C o k a b c) (o + 2) x = c4 C o k a x c := by
  funext j
  unfold upd c4
  by_cases h : j = o + 2
  · rw [if_pos h, if_neg (by omega), if_neg (by omega), if_pos h]
  · rw [if_neg h, if_neg h, if_neg h]
theorem c4_3 (C : Nat → Int32) (o : Nat) (k a b c x : Int32) : upd (c4 C o k a b c) (o + 3) x = c4 C o k a b x := by
  funext j
  unfold upd c4
  by_cases h : j = o + 3
  · rw [if_pos h, if_neg (by omega), if_neg (by omega), if_neg (by omega), if_pos h]
  · rw [if_neg h, if_neg h, if_neg h]
theorem m_let_or {k : Int32} (h : m_let k = true) : k = 97 ∨ k = 102 ∨ k = 115 ∨ k = 114 ∨ k = 99 ∨ k = 117 ∨ k = 119 ∨ k = 103 ∨ k = 100 ∨ k = 118 ∨ k = 98 ∨ k = 113 ∨ k = 116 := by
  unfold m_let at h
  simp only [Bool.or_eq_true, beq_iff_eq] at h
  simpa only [or_assoc] using h
/-- a command does -/
def o_does (B : Nat → Int32) (n t N : Nat) (k a b c : Int32) : cO :=
  if k = 97 then o_adds B n a b c else if k = 102 then o_fails B n a else if k = 115 then o_sends B n a b else if k = 114 then o_recalls B n a else if k = 99 then o_curtails B n a b
  else if k = 117 then o_releases B n a else if k = 119 then o_blows B n a b else if k = 103 then o_limits B a else if k = 100 then o_disp B n N else if k = 118 then o_rels B n
  else if k = 98 then o_places B a b c else if k = 113 then o_withdraws B a else o_hours B n t a
def m_n (B : Nat → Int32) : Nat := (B 0).toNatClampNeg
def m_tm (B : Nat → Int32) : Nat := (B 4).toNatClampNeg
def m_dn (B : Nat → Int32) : Nat := (y_fst (fun i => decide (¬ 0 < m_exc (m_cuts B (m_n B) i) (m_n B))) 0 14).getD 0
def o_cmd (B : Nat → Int32) (k a b c : Int32) : cO := o_does B (m_n B) (m_tm B) (m_dn B) k a b c
/-- a row that the twin's methods can bear -/
def wB (B : Nat → Int32) : Prop := B 0 = nI (m_n B) ∧ m_n B ≤ 12 ∧ (∃ q : Nat, B 3 = nI q ∧ q < 1000) ∧ B 4 = nI (m_tm B) ∧ m_tm B + 50 < 2 ^ 20 ∧ (∀ i : Nat, i < m_dn B → 0 < m_exc (m_cuts B (m_n B) i) (m_n B)) ∧ ¬ 0 < m_exc (m_cuts B (m_n B) (m_dn B)) (m_n B)
abbrev xS : Type := Int32 × (Nat → Int32) × (Nat → Int32)
def x_it (C : Nat → Int32) : Nat → xS → xS
  | 0, s => s
  | i + 1, s => (tBy (o_cmd (x_it C i s).2.2 (C (4 * i)) (C (4 * i + 1)) (C (4 * i + 2)) (C (4 * i + 3))), tGo (x_it C i s).2.1 (o_cmd (x_it C i s).2.2 (C (4 * i)) (C (4 * i + 1)) (C (4 * i + 2)) (C (4 * i + 3))), tBo (x_it C i s).2.2 (o_cmd (x_it C i s).2.2 (C (4 * i)) (C (4 * i + 1)) (C (4 * i + 2)) (C (4 * i + 3))))
def p_0 (I : Nat → Int32) (t : Nat) (C : Nat → Int32) : pS × (Nat → Int32) := ((p_cmd I t (0, none, 0)).2, p_cmdC I t (0, none, 0) C)
theorem tAp_0 (L : Nat → Int32) (a b : List Int32) : tAp (tAp L 0 a) a.length b = tAp L 0 (a ++ b) := by
  have h := tAp_app L 0 a b
  rwa [Nat.zero_add] at h
theorem lG_0 (g : Nat → Int32) (a b : List Int32) : lG g (a.length + b.length) = lG g (a ++ b).length := by rw [List.length_append]
/-- a turbine's cells and output as numbers -/
def m_tn (B : Nat → Int32) (k w : Nat) : Nat := (m_t B k w).toNatClampNeg
def m_on (B : Nat → Int32) (n k : Nat) : Nat := (m_out B n k).toNatClampNeg
def m_tx (B : Nat → Int32) (n k : Nat) : List Int32 := m_text B k (m_tn B k 0) (m_tn B k 1) (m_tn B k 2) (m_on B n k) (m_tn B k 5) (m_tn B k 3) (m_tn B k 4)
def w_r (B : Nat → Int32) (n : Nat) (o : Option Nat) : Int32 := match o with
  | none => 0
  | some k => nI (m_tx B n k).length
def w_g (g B : Nat → Int32) (n : Nat) (o : Option Nat) : Nat → Int32 := match o with
  | none => upd g 0 1
  | some k => lG (upd g 0 0) (m_tx B n k).length
def w_L (L B : Nat → Int32) (n : Nat) (o : Option Nat) : Nat → Int32 := match o with
  | none => L
  | some k => tAp L 0 (m_tx B n k)
theorem nI_lits : nI 64 = 64 ∧ nI 44 = 44 ∧ nI 112 = 112 ∧ nI 61 = 61 ∧ nI 60 = 60 ∧ nI 120 = 120 ∧ nI 115 = 115 := ⟨rfl, rfl, rfl, rfl, rfl, rfl, rfl⟩
theorem pG_12 (g : Nat → Int32) (p : pS) : pG g p 12 = nI p.1 := rfl
theorem pG_11 {g : Nat → Int32} {v : Int32} (p : pS) (h : g 11 = v) : pG g p 11 = v := h
/-- the place and the error's place are small -/
def pB (N : Nat) (p : pS) : Prop := p.1 ≤ N ∧ ∀ e : Nat, p.2.1 = some e → e ≤ N
theorem pB.mono {N N' : Nat} {p : pS} (h : pB N p) (hN : N ≤ N') : pB N' p := ⟨Nat.le_trans h.1 hN, fun e he => Nat.le_trans (h.2 e he) hN⟩
theorem pB_num {N : Nat} {p : pS} (I : Nat → Int32) (t d : Nat) (h : pB N p) : pB (N + d) (p_num I t d p).2 := by
  refine ⟨Nat.le_trans (p_num_h I t d p) (by have := h.1; omega), fun e he => ?_⟩
  obtain ⟨q, e', c⟩ := p
  unfold p_num at he
  cases e' with
  | some e' =>
    have := h.2 e' rfl
    simp at he
    omega
  | none =>
    dsimp only at he
    split at he
    · simp at he
    · simp [pS.h] at he
      have := h.1
      dsimp only at this
      omega
theorem pB_need {N : Nat} {p : pS} (I : Nat → Int32) (t : Nat) (x : Int32) (h : pB N p) : pB (N + 1) (p_need I t x p) := by
  refine ⟨Nat.le_trans (p_need_h I t x p) (by have := h.1; omega), fun e he => ?_⟩
  obtain ⟨q, e', c⟩ := p
  unfold p_need at he
  cases e' with
  | some e' =>
    have := h.2 e' rfl
    simp at he
    omega
  | none =>
    dsimp only at he
    split at he
    · simp at he
    · simp [pS.h] at he
      have := h.1
      dsimp only at this
      omega
theorem pB_way {N : Nat} {p : pS} (I : Nat → Int32) (t : Nat) (h : pB N p) : pB (N + 1) (p_way I t p).2 := by
  refine ⟨Nat.le_trans (p_way_h I t p) (by have := h.1; omega), fun e he => ?_⟩
  obtain ⟨q, e', c⟩ := p
  unfold p_way at he
  split at he
  · simp [pS.h] at he
    have := h.1
    dsimp only at this
    omega
  · have := h.2 e he
    omega
theorem pB_beh {N : Nat} {p : pS} (I : Nat → Int32) (t : Nat) (x : Int32) (h : pB N p) : pB (N + 4) (p_beh I t x p).2 := pB_num I t 3 (pB_need I t x h)
theorem p_more_e {I : Nat → Int32} {t : Nat} {p : pS} (h : p_more I t p = true) : p.2.1 = none := by
  unfold p_more at h
  simp only [Bool.and_eq_true, decide_eq_true_eq] at h
  exact h.1
theorem p_more_s {I : Nat → Int32} {t : Nat} {p : pS} (h : p_more I t p = true) : m_sg I t p.1 = 59 := by
  unfold p_more at h
  simp only [Bool.and_eq_true, decide_eq_true_eq] at h
  exact h.2
theorem p_more_n {I : Nat → Int32} {t : Nat} {p : pS} (h : p_more I t p = false) (he : p.2.1 = none) : ¬ m_sg I t p.1 = 59 := by
  intro hs
  unfold p_more at h
  rw [show pS.e p = none from he, show m_sg I t (pS.h p) = 59 from hs] at h
  simp at h
theorem x_it_o (C : Nat → Int32) (s : xS) {j : Nat} (hj : j < 4 ∨ 7 < j) : ∀ i : Nat, (x_it C i s).2.1 j = s.2.1 j
  | 0 => rfl
  | i + 1 => (tGo_o _ _ hj).trans (x_it_o C s hj i)
/-- a script's end: its rejection, its answer -/
def x_g (g : Nat → Int32) (by_ : Int32) (K many : Nat) : Nat → Int32 := upd (if by_ = 3 then upd (upd (upd g 7 (g 5)) 5 10) 6 (nI K - 1) else g) 4 (nI many)
theorem x_g_2 (g : Nat → Int32) (by_ : Int32) (K many : Nat) : x_g g by_ K many 2 = g 2 := by
  unfold x_g
  rw [upd_ne (by omega)]
  split
  · rw [upd_ne (by omega), upd_ne (by omega), upd_ne (by omega)]
  · rfl

/-! the twin's larger changes: picture of what they do to the row -/
set_option maxRecDepth 100000
def m_48 (x : Int32) : Option Nat := if m_in x 1 48 then some x.toNatClampNeg else none
theorem m_48_or (x : Int32) : (m_in x 1 48 = false ∧ m_48 x = none) ∨ ∃ k : Nat, k < 49 ∧ x = nI k ∧ m_in x 1 48 = true ∧ m_48 x = some k := by
  by_cases h : m_in x 1 48 = true
  · have h0 : m_in x 0 (nI 48) = true := by
      unfold m_in at h ⊢
      simp only [Bool.and_eq_true, Bool.not_eq_true', decide_eq_false_iff_not] at h ⊢
      refine ⟨fun hl => h.1 ?_, h.2⟩
      rw [Int32.lt_iff_toInt_lt] at hl ⊢
      have : (1 : Int32).toInt = 1 := rfl
      have : (0 : Int32).toInt = 0 := rfl
      omega
    obtain ⟨k, h1, h2⟩ := m_in_of (b := 48) (by omega) h0
    refine Or.inr ⟨k, by omega, h2, h, ?_⟩
    unfold m_48
    rw [if_pos h, h2, nI_clamp (by omega)]
  · refine Or.inl ⟨by simpa using h, ?_⟩
    unfold m_48
    rw [if_neg h]
/-- what exceeds the grid limit -/
def m_exc (B : Nat → Int32) (n : Nat) : Int32 := m_total B n - B 3
def m_big (B : Nat → Int32) (n : Nat) : Nat → Nat
  | 0 => 0
  | k + 1 => if m_out B n (m_big B n k) < m_out B n k then k else m_big B n k
def m_cut (B : Nat → Int32) (n : Nat) : Nat → Int32 := upd B (57 + 6 * m_big B n n + 5) (if m_out B n (m_big B n n) - (m_total B n - B 3) < 0 then 1 else m_out B n (m_big B n n) - (m_total B n - B 3) + 1)
def m_cuts (B : Nat → Int32) (n : Nat) : Nat → Nat → Int32
  | 0 => B
  | i + 1 => m_cut (m_cuts B n i) n
theorem m_cuts_lo (B : Nat → Int32) (n : Nat) {j : Nat} (h : j < 57) : ∀ i : Nat, m_cuts B n i j = B j
  | 0 => rfl
  | i + 1 => by
    show upd _ _ _ j = _
    rw [upd_ne (by omega)]
    exact m_cuts_lo B n h i
theorem m_big_1 (B : Nat → Int32) (n : Nat) : m_big B n 1 = 0 := by
  show (if _ then 0 else 0) = 0
  split <;> rfl
theorem m_big_lt (B : Nat → Int32) (n : Nat) : ∀ k : Nat, m_big B n k ≤ k - 1
  | 0 => Nat.le_refl _
  | 1 => by rw [m_big_1]; omega
  | k + 2 => by
    show (if m_out B n (m_big B n (k + 1)) < m_out B n (k + 1) then k + 1 else m_big B n (k + 1)) ≤ k + 1
    have := m_big_lt B n (k + 1)
    split
    · exact Nat.le_refl _
    · omega
theorem m_exc_n {B : Nat → Int32} {n q : Nat} (hq : B 3 = nI q) (hq2 : q < 1000) (h : 0 < m_exc B n) : 0 < n := by
  cases n with
  | succ n => omega
  | zero =>
    exfalso
    unfold m_exc m_total y_sum at h
    rw [hq, Int32.lt_iff_toInt_lt, Int32.toInt_sub, nI_toInt (by omega)] at h
    have e : (0 : Int32).toInt = 0 := rfl
    rw [e] at h
    have : (0 - (q : Int)).bmod (2 ^ 32) = 0 - (q : Int) := Int.bmod_eq_of_le (by omega) (by omega)
    omega
/-- an hour: its turbines in service -/
def m_tick1 (B : Nat → Int32) (k : Nat) : Nat → Int32 := if m_t B k 3 = 2 then upd (upd B (57 + 6 * k + 4) (m_t B k 4 - 1)) (57 + 6 * k + 3) (if m_t (upd B (57 + 6 * k + 4) (m_t B k 4 - 1)) k 4 = 0 then 0 else 2) else B
def m_ticks (B : Nat → Int32) : Nat → Nat → Int32
  | 0 => B
  | k + 1 => m_tick1 (m_ticks B k) k
theorem m_ticks_lo (B : Nat → Int32) {j : Nat} (h : j < 57) : ∀ i : Nat, m_ticks B i j = B j
  | 0 => rfl
  | i + 1 => by
    show m_tick1 _ _ j = _
    unfold m_tick1
    split
    · rw [upd_ne (by omega), upd_ne (by omega)]
      exact m_ticks_lo B h i
    · exact m_ticks_lo B h i
def m_sold (B : Nat → Int32) (n h : Nat) : Int32 := if m_total B n - m_total B n / 20 < m_quan B h then m_total B n - m_total B n / 20 else m_quan B h
def m_pay (B : Nat → Int32) (n h : Nat) : Nat → Int32 :=
  upd (upd (upd (upd B 5 (B 5 + m_total B n)) 6 (B 6 + m_total B n / 20)) 7 (B 7 + m_sold B n h)) 8 (B 8 + (m_sold B n h * m_price B h - (m_quan B h - m_sold B n h) * m_price B h))
theorem m_pay_lo (B : Nat → Int32) (n h : Nat) {j : Nat} (hj : j < 5) : m_pay B n h j = B j := by
  unfold m_pay
  rw [upd_ne (by omega), upd_ne (by omega), upd_ne (by omega), upd_ne (by omega)]
def m_hour (B : Nat → Int32) (n t : Nat) : Nat → Int32 := upd (m_ticks (m_pay B n (t % 24)) n) 4 (nI (t + 1))
theorem m_hour_lo (B : Nat → Int32) (n t : Nat) {j : Nat} (hj : j < 4) : m_hour B n t j = B j := by
  unfold m_hour
  rw [upd_ne (by omega), m_ticks_lo _ (by omega), m_pay_lo _ _ _ (by omega)]
def m_hours (B : Nat → Int32) (n t : Nat) : Nat → Nat → Int32
  | 0 => B
  | k + 1 => m_hour (m_hours B n t k) n (t + k)
theorem m_hours_lo (B : Nat → Int32) (n t : Nat) {j : Nat} (hj : j < 4) : ∀ k : Nat, m_hours B n t k j = B j
  | 0 => rfl
  | k + 1 => by
    show m_hour _ _ _ _ = _
    rw [m_hour_lo _ _ _ hj]
    exact m_hours_lo B n t hj k
theorem m_hours_4 (B : Nat → Int32) (n t : Nat) (h : B 4 = nI t) : ∀ k : Nat, m_hours B n t k 4 = nI (t + k)
  | 0 => h
  | k + 1 => rfl
theorem nI_mod24 {t : Nat} (ht : t < 2 ^ 31) : nI t - nI t / 24 * 24 = nI (t % 24) := by
  rw [show (24 : Int32) = nI 24 from rfl, ← Int32.toInt_inj, nI_toInt (by omega)]
  rw [Int32.toInt_sub, Int32.toInt_mul, Int32.toInt_div, nI_toInt ht, nI_toInt (by omega)]
  have e : ((t : Int)).tdiv ((24 : Nat) : Int) = ((t / 24 : Nat) : Int) := by
    rw [Int.tdiv_eq_ediv_of_nonneg (by omega)]
    omega
  rw [e]
  have e1 : (((t / 24 : Nat) : Int)).bmod (2 ^ 32) = ((t / 24 : Nat) : Int) := Int.bmod_eq_of_le (by omega) (by omega)
  rw [e1]
  have e2 : (((t / 24 : Nat) : Int) * ((24 : Nat) : Int)).bmod (2 ^ 32) = ((t / 24 : Nat) : Int) * ((24 : Nat) : Int) := Int.bmod_eq_of_le (by omega) (by omega)
  rw [e2]
  have e3 : ((t : Int) - ((t / 24 : Nat) : Int) * ((24 : Nat) : Int)).bmod (2 ^ 32) = (t : Int) - ((t / 24 : Nat) : Int) * ((24 : Nat) : Int) := Int.bmod_eq_of_le (by omega) (by omega)
  rw [e3]
  omega
/-- the changes as outcomes -/
def o_disp (B : Nat → Int32) (n N : Nat) : cO := .inr (.inr (nI N, m_cuts B n N))
def m_rels (B : Nat → Int32) : Nat → Nat → Int32
  | 0 => B
  | k + 1 => upd (m_rels B k) (57 + 6 * k + 5) 0
theorem m_rels_lo (B : Nat → Int32) {j : Nat} (h : j < 57) : ∀ i : Nat, m_rels B i j = B j
  | 0 => rfl
  | i + 1 => by
    show upd _ _ _ j = _
    rw [upd_ne (by omega)]
    exact m_rels_lo B h i
def m_relN (B : Nat → Int32) : Nat → Int32
  | 0 => 0
  | k + 1 => m_relN B k + (if 0 < m_t (m_rels B k) k 5 then 1 else 0)
def o_rels (B : Nat → Int32) (n : Nat) : cO := .inr (.inr (m_relN B n, m_rels B n))
def o_hours (B : Nat → Int32) (n t : Nat) (x : Int32) : cO := match m_48 x with
  | none => .inl 2
  | some k => .inr (.inr (m_hours B n t k 7 - B 7, m_hours B n t k))
/-- fields over fields -/
def tPlus (g : Nat → Int32) (o : cO) : Nat → Int32 := tGo g o
theorem tGo_2 (g : Nat → Int32) (o : cO) : tGo g o 2 = g 2 := by
  rcases o with b | p | p <;> rfl
theorem tGo_o (g : Nat → Int32) (o : cO) {j : Nat} (h : j < 4 ∨ 7 < j) : tGo g o j = g j := by
  rcases o with b | p | p
  · rfl
  · show upd _ _ _ j = _
    rw [upd_ne (by omega), upd_ne (by omega), upd_ne (by omega)]
  · show upd _ _ _ j = _
    rw [upd_ne (by omega)]
theorem sRow_at (Bs : Nat → Nat → Int32) (j : Nat) (R : Nat → Int32) : sRow Bs j R j = R := by
  unfold sRow
  rw [if_pos rfl]
/-- thrown, as tests in a row leave it -/
def th_g (q : Nat → Bool) (g : Nat → Int32) : Nat → Nat → Int32
  | 0 => g
  | k + 1 => if q k then upd (th_g q g k) 0 1 else th_g q g k
theorem th_g_u (q : Nat → Bool) (g : Nat → Int32) (x : Int32) : ∀ k : Nat, upd (th_g q g k) 0 x = upd g 0 x
  | 0 => rfl
  | k + 1 => by
    show upd (if q k then _ else _) 0 x = _
    split
    · rw [upd_upd]; exact th_g_u q g x k
    · exact th_g_u q g x k
def bb_ah (B : Nat → Int32) (k j : Nat) : Bool := decide (0 < m_price B j) && (decide (0 < m_price B j - m_price B k) || (decide (m_price B j - m_price B k = 0) && (decide (0 < m_quan B j - m_quan B k) || (decide (m_quan B j - m_quan B k = 0) && decide (nI j < nI k)))))
def bb_n (B : Nat → Int32) (k : Nat) : Int32 := y_sum (fun j => if bb_ah B k j then 1 else 0) 24
def bb_is (B : Nat → Int32) (x : Int32) (k : Nat) : Bool := decide (m_price B k ≠ 0) && decide (bb_n B k = x)
def bo_ah (B : Nat → Int32) (n k j : Nat) : Bool := decide (0 < m_out B n j - m_out B n k) || (decide (m_out B n j - m_out B n k = 0) && (decide (0 < m_t B j 2 - m_t B k 2) || (decide (m_t B j 2 - m_t B k 2 = 0) && decide (nI j < nI k))))
def bo_n (B : Nat → Int32) (n k : Nat) : Int32 := y_sum (fun j => if bo_ah B n k j then 1 else 0) n
def bo_is (B : Nat → Int32) (n : Nat) (x : Int32) (k : Nat) : Bool := decide (bo_n B n k = x)
def fs_g (g : Nat → Int32) (o : Option Nat) : Nat → Int32 := upd g 0 (match o with
  | none => 1
  | some _ => 0)
def m_with (B : Nat → Int32) (n : Nat) (w s : Int32) : Int32 := m_total (upd (upd B 1 w) 2 s) n
theorem upd_self (f : Nat → Int32) (k : Nat) : upd f k (f k) = f := by
  funext j
  unfold upd
  by_cases h : j = k
  · rw [if_pos h, h]
  · rw [if_neg h]
theorem m_with_back (B : Nat → Int32) (w s : Int32) : upd (upd (upd (upd B 1 w) 2 s) 1 (B 1)) 2 (B 2) = B := by
  funext j
  unfold upd
  by_cases h : j = 2
  · rw [if_pos h, h]
  · rw [if_neg h]
    by_cases h1 : j = 1
    · rw [if_pos h1, h1]
    · rw [if_neg h1, if_neg h, if_neg h1]
def m_best (B : Nat → Int32) (n : Nat) : Nat → Nat
  | 0 => 0
  | k + 1 => if m_with B n (nI (m_best B n k)) (B 2) < m_with B n (nI k) (B 2) then k else m_best B n k
theorem m_best_1 (B : Nat → Int32) (n : Nat) : m_best B n 1 = 0 := by
  show (if _ then 0 else 0) = 0
  split <;> rfl
/-- the hour next with a bid -/
def m_toBid (B : Nat → Int32) (t : Nat) : Option Nat := y_fst (fun k => decide (0 < m_price B ((t + k) % 24))) 0 24

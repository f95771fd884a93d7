set_option maxRecDepth 100000
set_option maxHeartbeats 1000000 in
theorem kX4_in {z : State} {D : yD} (v : Int32) (a : Int32) (b : Int32) : yR yX4_in (ws_ yX4_in cX4_in 3 (some .boolean)) (rmD 1 0 0) z D [.int v, .int a, .int b] (fun _ => True) (some (.int (zb (m_in v a b)))) := by
  refine yR_of (own := RX4) (by decide +kernel) rfl (Nat.le_of_ble_eq_true rfl) fun E hE hW ls hl => ?_
  obtain ⟨Q, hQ⟩ : ∃ Q, Q = yEr E (some (.int (zb (m_in v a b)))) := ⟨_, rfl⟩
  rw [← hQ]
  have hl : lv_has ls 3 [(0, .int v), (1, .int a), (2, .int b)] := hl
  refine y_iload_n hE dX4_in_0 rfl (lv_at hl 0 rfl) ?_
  refine y_iload_n hE dX4_in_1 rfl (lv_at hl 1 rfl) ?_
  refine y_icmp_lt (tgt := 14) hE dX4_in_2 (by decide) (fun c2 => ?_) (fun c2 => ?_)
  · -- t 2
    refine y_iconst (v := 0) hE dX4_in_14 (by decide) ?_
    rw [hQ]
    exact y_set1 (w := zb (m_in v a b)) (by first | rfl | (simp [m_in, c2, zb]; done) | (simp_all [m_in, zb]; done) | grind [m_in]) (y_zretR hE (zb_nar _) dX4_in_15)
  · -- f 2
    refine y_iload_n hE dX4_in_5 rfl (lv_at hl 0 rfl) ?_
    refine y_iload_n hE dX4_in_6 rfl (lv_at hl 2 rfl) ?_
    refine y_icmp_gt (tgt := 14) hE dX4_in_7 (by decide) (fun c7 => ?_) (fun c7 => ?_)
    · -- t 7
      refine y_iconst (v := 0) hE dX4_in_14 (by decide) ?_
      rw [hQ]
      exact y_set1 (w := zb (m_in v a b)) (by first | rfl | (simp [m_in, c2, c7, zb]; done) | (simp_all [m_in, zb]; done) | grind [m_in]) (y_zretR hE (zb_nar _) dX4_in_15)
    · -- f 7
      refine y_iconst (v := 1) hE dX4_in_10 (by decide) ?_
      refine y_goto (tgt := 15) hE dX4_in_11 (by decide) ?_
      rw [hQ]
      exact y_set1 (w := zb (m_in v a b)) (by first | rfl | (simp [m_in, c2, c7, zb]; done) | (simp_all [m_in, zb]; done) | grind [m_in]) (y_zretR hE (zb_nar _) dX4_in_15)

set_option maxHeartbeats 1000000 in
theorem kX4_t {z : State} {D : yD} {m : Nat → Nat} {g B : Nat → Int32} {Bs : Nat → Nat → Int32} {L I C : Nat → Int32} (k : Nat) (w : Nat) (hk : k < 12) (hw : w < 6) : yR yX4_t (ws_ yX4_t cX4_t 3 (some .int)) (rmD 1 0 0) z D [.ref (m 0), .int (nI k), .int (nI w)] (tW z D m g B Bs L I C) (some (.int (m_t B k w))) := by
  refine yR_of (own := RX4) (by decide +kernel) rfl (Nat.le_of_ble_eq_true rfl) fun E hE hW ls hl => ?_
  obtain ⟨Q, hQ⟩ : ∃ Q, Q = yEr E (some (.int (m_t B k w))) := ⟨_, rfl⟩
  rw [← hQ]
  have hl : lv_has ls 3 [(0, .ref (m 0)), (1, .int (nI k)), (2, .int (nI w))] := hl
  refine y_aload_n hE dX4_t_0 rfl (lv_at hl 0 rfl) ?_
  refine t_get (v := .ref (m 1)) hE 1 (by decide) q1977 rfl hW rfl dX4_t_1 ?_
  refine y_bipush (v := 57) hE dX4_t_4 (by decide) ?_
  refine y_bipush (v := 6) hE dX4_t_6 (by decide) ?_
  refine y_iload_n hE dX4_t_8 rfl (lv_at hl 1 rfl) ?_
  refine y_imul hE dX4_t_9 ?_
  refine y_iadd hE dX4_t_10 ?_
  refine y_iload_n hE dX4_t_11 rfl (lv_at hl 2 rfl) ?_
  refine y_iadd hE dX4_t_12 ?_
  refine t_aldB (j := 57 + 6 * k + w) (v := B (57 + 6 * k + w)) hE hW (by show nI 57 + nI 6 * nI k + nI w = _; rw [pk_mul, nI_add, nI_add]) (by omega) rfl dX4_t_13 ?_
  rw [hQ]
  exact y_set1 (w := m_t B k w) (by first | rfl | (simp [zb]; done) | (simp_all [zb]; done) | grind []) (y_iretR hE dX4_t_14)

set_option maxHeartbeats 1000000 in
theorem kX4_set {z : State} {D : yD} {m : Nat → Nat} {g B : Nat → Int32} {Bs : Nat → Nat → Int32} {L I C : Nat → Int32} (k : Nat) (w : Nat) (v : Int32) (hk : k < 12) (hw : w < 6) : yM yX4_set (ws_ yX4_set cX4_set 4 none) (rmD 1 0 0) z D [.ref (m 0), .int (nI k), .int (nI w), .int v] (tW z D m g B Bs L I C) eV (fun _ H => tW z D m g (upd B (57 + 6 * k + w) v) Bs L I C H) 0 0 (tA m) := by
  refine yM_of (own := RX4) (by decide +kernel) rfl (Nat.le_of_ble_eq_true rfl) (fun H h => h.az) fun E hE hW ls hl hin => ?_
  obtain ⟨Q, hQ⟩ : ∃ Q, Q = yEm E eV (fun _ H => tW z D m g (upd B (57 + 6 * k + w) v) Bs L I C H) 0 0 (tA m) := ⟨_, rfl⟩
  rw [← hQ]
  generalize (e_s E).heap = H at hW ⊢
  have hl : lv_has ls 4 [(0, .ref (m 0)), (1, .int (nI k)), (2, .int (nI w)), (3, .int v)] := hl
  refine y_aload_n hE dX4_set_0 rfl (lv_at hl 0 rfl) ?_
  refine t_get (v := .ref (m 1)) hE 1 (by decide) q1977 rfl hW rfl dX4_set_1 ?_
  refine y_bipush (v := 57) hE dX4_set_4 (by decide) ?_
  refine y_bipush (v := 6) hE dX4_set_6 (by decide) ?_
  refine y_iload_n hE dX4_set_8 rfl (lv_at hl 1 rfl) ?_
  refine y_imul hE dX4_set_9 ?_
  refine y_iadd hE dX4_set_10 ?_
  refine y_iload_n hE dX4_set_11 rfl (lv_at hl 2 rfl) ?_
  refine y_iadd hE dX4_set_12 ?_
  refine y_iload_n hE dX4_set_13 rfl (lv_at hl 3 rfl) ?_
  refine t_astB (j := 57 + 6 * k + w) hE hW (by show nI 57 + nI 6 * nI k + nI w = _; rw [pk_mul, nI_add, nI_add]) (by omega) dX4_set_14 (fun H hW => ?_)
  rw [hQ]
  exact y_vret hE dX4_set_15 (hW.cast rfl (by first | rfl | (simp [zb]; done) | (simp_all [zb]; done) | grind []) rfl rfl rfl rfl) (Nat.le_of_ble_eq_true rfl) (Nat.le_of_ble_eq_true rfl)

set_option maxHeartbeats 1000000 in
theorem kX4_isTurbine {z : State} {D : yD} {m : Nat → Nat} {g B : Nat → Int32} {Bs : Nat → Nat → Int32} {L I C : Nat → Int32} (n : Nat) (x : Int32) (hn : B 0 = nI n) : yR yX4_isTurbine (ws_ yX4_isTurbine cX4_isTurbine 2 (some .boolean)) (rmD 2 0 0) z D [.ref (m 0), .int x] (tW z D m g B Bs L I C) (some (.int (zb (m_isT n x)))) := by
  refine yR_of (own := RX4) (by decide +kernel) rfl (Nat.le_of_ble_eq_true rfl) fun E hE hW ls hl => ?_
  obtain ⟨Q, hQ⟩ : ∃ Q, Q = yEr E (some (.int (zb (m_isT n x)))) := ⟨_, rfl⟩
  rw [← hQ]
  have hl : lv_has ls 2 [(0, .ref (m 0)), (1, .int x)] := hl
  refine y_iload_n hE dX4_isTurbine_0 rfl (lv_at hl 1 rfl) ?_
  refine y_iconst (v := 0) hE dX4_isTurbine_1 (by decide) ?_
  refine y_aload_n hE dX4_isTurbine_2 rfl (lv_at hl 0 rfl) ?_
  refine t_get (v := .ref (m 1)) hE 1 (by decide) q1977 rfl hW rfl dX4_isTurbine_3 ?_
  refine y_iconst (v := 0) hE dX4_isTurbine_6 (by decide) ?_
  refine t_aldB (j := 0) (v := B 0) hE hW (rfl) (by decide) rfl dX4_isTurbine_7 ?_
  refine y_set1 (w := nI n) (hn) ?_
  refine y_iconst (v := 1) hE dX4_isTurbine_8 (by decide) ?_
  refine y_isub hE dX4_isTurbine_9 ?_
  -- call in ['x', '0', '(nI n) - 1']
  refine y_roS (rest := []) hE cl_X4_53 (kX4_in x 0 ((nI n) - 1)) dX4_isTurbine_10 hl (Nat.le_of_ble_eq_true rfl) rfl rfl (Nat.le_of_ble_eq_true rfl) trivial ⟨(Nat.le_of_ble_eq_true rfl), (Nat.le_of_ble_eq_true rfl)⟩ ?_
  rw [hQ]
  exact y_set1 (w := zb (m_isT n x)) (by first | rfl | (simp [m_isT, zb]; done) | (simp_all [m_isT, zb]; done) | grind [m_isT]) (y_zretR hE (zb_nar _) dX4_isTurbine_13)

set_option maxHeartbeats 1000000 in
theorem kX4_isCell {z : State} {D : yD} (r : Int32) (c : Int32) : yR yX4_isCell (ws_ yX4_isCell cX4_isCell 2 (some .boolean)) (rmD 2 0 0) z D [.int r, .int c] (fun _ => True) (some (.int (zb (m_cell r c)))) := by
  refine yR_of (own := RX4) (by decide +kernel) rfl (Nat.le_of_ble_eq_true rfl) fun E hE hW ls hl => ?_
  obtain ⟨Q, hQ⟩ : ∃ Q, Q = yEr E (some (.int (zb (m_cell r c)))) := ⟨_, rfl⟩
  rw [← hQ]
  have hl : lv_has ls 2 [(0, .int r), (1, .int c)] := hl
  refine y_iload_n hE dX4_isCell_0 rfl (lv_at hl 0 rfl) ?_
  refine y_iconst (v := 0) hE dX4_isCell_1 (by decide) ?_
  refine y_iconst (v := 4) hE dX4_isCell_2 (by decide) ?_
  -- call in ['r', '0', '4']
  refine y_roS (rest := []) hE cl_X4_53 (kX4_in r 0 4) dX4_isCell_3 hl (Nat.le_of_ble_eq_true rfl) rfl rfl (Nat.le_of_ble_eq_true rfl) trivial ⟨(Nat.le_of_ble_eq_true rfl), (Nat.le_of_ble_eq_true rfl)⟩ ?_
  refine y_if_eq (tgt := 22) hE dX4_isCell_6 (by decide) (fun c6 => ?_) (fun c6 => ?_)
  · -- t 6
    rw [zb_0] at c6
    refine y_iconst (v := 0) hE dX4_isCell_22 (by decide) ?_
    rw [hQ]
    exact y_set1 (w := zb (m_cell r c)) (by first | rfl | (simp [m_cell, c6, zb]; done) | (simp_all [m_cell, zb]; done) | grind [m_cell]) (y_zretR hE (zb_nar _) dX4_isCell_23)
  · -- f 6
    rw [zb_1] at c6
    refine y_iload_n hE dX4_isCell_9 rfl (lv_at hl 1 rfl) ?_
    refine y_iconst (v := 0) hE dX4_isCell_10 (by decide) ?_
    refine y_iconst (v := 5) hE dX4_isCell_11 (by decide) ?_
    -- call in ['c', '0', '5']
    refine y_roS (rest := []) hE cl_X4_53 (kX4_in c 0 5) dX4_isCell_12 hl (Nat.le_of_ble_eq_true rfl) rfl rfl (Nat.le_of_ble_eq_true rfl) trivial ⟨(Nat.le_of_ble_eq_true rfl), (Nat.le_of_ble_eq_true rfl)⟩ ?_
    refine y_if_eq (tgt := 22) hE dX4_isCell_15 (by decide) (fun c15 => ?_) (fun c15 => ?_)
    · -- t 15
      rw [zb_0] at c15
      refine y_iconst (v := 0) hE dX4_isCell_22 (by decide) ?_
      rw [hQ]
      exact y_set1 (w := zb (m_cell r c)) (by first | rfl | (simp [m_cell, c6, c15, zb]; done) | (simp_all [m_cell, zb]; done) | grind [m_cell]) (y_zretR hE (zb_nar _) dX4_isCell_23)
    · -- f 15
      rw [zb_1] at c15
      refine y_iconst (v := 1) hE dX4_isCell_18 (by decide) ?_
      refine y_goto (tgt := 23) hE dX4_isCell_19 (by decide) ?_
      rw [hQ]
      exact y_set1 (w := zb (m_cell r c)) (by first | rfl | (simp [m_cell, c6, c15, zb]; done) | (simp_all [m_cell, zb]; done) | grind [m_cell]) (y_zretR hE (zb_nar _) dX4_isCell_23)

set_option maxHeartbeats 1000000 in
theorem kX4_inCell {z : State} {D : yD} {m : Nat → Nat} {g B : Nat → Int32} {Bs : Nat → Nat → Int32} {L I C : Nat → Int32} (n : Nat) (r : Int32) (c : Int32) (hn : B 0 = nI n) (hN : n ≤ 12) : yR yX4_inCell (ws_ yX4_inCell cX4_inCell 4 (some .int)) (rmD 2 0 0) z D [.ref (m 0), .int r, .int c] (tW z D m g B Bs L I C) (some (.int (m_o (m_at B n r c)))) := by
  refine yR_of (own := RX4) (by decide +kernel) rfl (Nat.le_of_ble_eq_true rfl) fun E hE hW ls hl => ?_
  obtain ⟨Q, hQ⟩ : ∃ Q, Q = yEr E (some (.int (m_o (m_at B n r c)))) := ⟨_, rfl⟩
  rw [← hQ]
  have hl : lv_has ls 4 [(0, .ref (m 0)), (1, .int r), (2, .int c)] := hl
  refine y_iconst (v := 0) hE dX4_inCell_0 (by decide) ?_
  refine y_istore_n (lv' := [(3, .int 0), (0, .ref (m 0)), (1, .int r), (2, .int c)]) hE dX4_inCell_1 rfl hl (by decide) rfl (fun ls hl => ?_)
  have K2 : ∀ i : Nat, i ≤ n → ∀ ls : Array Slot, lv_has ls 4 [(3, .int (nI i)), (0, .ref (m 0)), (1, .int r), (2, .int c)] → (y_fst (fun k => decide (m_t B k 0 = r) && decide (m_t B k 1 = c)) 0 n = y_fst (fun k => decide (m_t B k 0 = r) && decide (m_t B k 1 = c)) i (n - i)) → yY E (fun _ => False) (e_s E).heap 0 0 Q 2 ls [] := by
    refine y_loop ?_ ?_
    · -- the end of the loop at 2
      intro ls hl hv
      refine y_iload_n hE dX4_inCell_2 rfl (lv_at hl 0 rfl) ?_
      refine y_aload_n hE dX4_inCell_3 rfl (lv_at hl 1 rfl) ?_
      refine t_get (v := .ref (m 1)) hE 1 (by decide) q1977 rfl hW rfl dX4_inCell_4 ?_
      refine y_iconst (v := 0) hE dX4_inCell_7 (by decide) ?_
      refine t_aldB (j := 0) (v := B 0) hE hW (rfl) (by decide) rfl dX4_inCell_8 ?_
      refine y_set1 (w := nI n) (hn) ?_
      refine y_icmp_ge (tgt := 40) hE dX4_inCell_9 (by decide) (fun c9 => ?_) (fun c9 => ?_)
      · -- t 9
        refine y_iconst (v := (-1)) hE dX4_inCell_40 (by decide) ?_
        rw [hQ]
        exact y_set1 (w := m_o (m_at B n r c)) (by rw [m_at, hv, y_fst_0]; rfl) (y_iretR hE dX4_inCell_41)
      · -- f 9
        exact absurd (nI_le (Nat.le_refl _) (by omega)) c9
    · -- a round of the loop at 2
      intro i hi ih2 ls hl hv
      refine y_iload_n hE dX4_inCell_2 rfl (lv_at hl 0 rfl) ?_
      refine y_aload_n hE dX4_inCell_3 rfl (lv_at hl 1 rfl) ?_
      refine t_get (v := .ref (m 1)) hE 1 (by decide) q1977 rfl hW rfl dX4_inCell_4 ?_
      refine y_iconst (v := 0) hE dX4_inCell_7 (by decide) ?_
      refine t_aldB (j := 0) (v := B 0) hE hW (rfl) (by decide) rfl dX4_inCell_8 ?_
      refine y_set1 (w := nI n) (hn) ?_
      refine y_icmp_ge (tgt := 40) hE dX4_inCell_9 (by decide) (fun c9 => ?_) (fun c9 => ?_)
      · -- t 9
        exact absurd c9 (nI_ge hi (by omega))
      · -- f 9
        refine y_aload_n hE dX4_inCell_12 rfl (lv_at hl 1 rfl) ?_
        refine y_iload_n hE dX4_inCell_13 rfl (lv_at hl 0 rfl) ?_
        refine y_iconst (v := 0) hE dX4_inCell_14 (by decide) ?_
        -- call t ['i', '0']
        refine y_roV (rest := []) hE cl_X4_57 (kX4_t i 0 (by omega) (by omega)) dX4_inCell_15 hl (Nat.le_of_ble_eq_true rfl) (y_recv hE rfl hW.1) rfl rfl (Nat.le_of_ble_eq_true rfl) hW ⟨(Nat.le_of_ble_eq_true rfl), (Nat.le_of_ble_eq_true rfl)⟩ ?_
        refine y_iload_n hE dX4_inCell_18 rfl (lv_at hl 2 rfl) ?_
        refine y_icmp_ne (tgt := 34) hE dX4_inCell_19 (by decide) (fun c19 => ?_) (fun c19 => ?_)
        · -- t 19
          refine y_iinc (v := nI (i + 1)) (lv' := [(3, .int (nI (i + 1))), (0, .ref (m 0)), (1, .int r), (2, .int c)]) hE dX4_inCell_34 hl (k := 0) rfl (nI_1 i) (by decide) rfl (fun ls hl => ?_)
          refine y_goto (tgt := 2) hE dX4_inCell_37 (by decide) ?_
          exact ih2 _ (lv_sub hl [0, 1, 2, 3] rfl) (hv.trans (y_fst_n hi (by simp [c9, c19])))
        · -- f 19
          refine y_aload_n hE dX4_inCell_22 rfl (lv_at hl 1 rfl) ?_
          refine y_iload_n hE dX4_inCell_23 rfl (lv_at hl 0 rfl) ?_
          refine y_iconst (v := 1) hE dX4_inCell_24 (by decide) ?_
          -- call t ['i', '1']
          refine y_roV (rest := []) hE cl_X4_57 (kX4_t i 1 (by omega) (by omega)) dX4_inCell_25 hl (Nat.le_of_ble_eq_true rfl) (y_recv hE rfl hW.1) rfl rfl (Nat.le_of_ble_eq_true rfl) hW ⟨(Nat.le_of_ble_eq_true rfl), (Nat.le_of_ble_eq_true rfl)⟩ ?_
          refine y_iload_n hE dX4_inCell_28 rfl (lv_at hl 3 rfl) ?_
          refine y_icmp_ne (tgt := 34) hE dX4_inCell_29 (by decide) (fun c29 => ?_) (fun c29 => ?_)
          · -- t 29
            refine y_iinc (v := nI (i + 1)) (lv' := [(3, .int (nI (i + 1))), (0, .ref (m 0)), (1, .int r), (2, .int c)]) hE dX4_inCell_34 hl (k := 0) rfl (nI_1 i) (by decide) rfl (fun ls hl => ?_)
            refine y_goto (tgt := 2) hE dX4_inCell_37 (by decide) ?_
            exact ih2 _ (lv_sub hl [0, 1, 2, 3] rfl) (hv.trans (y_fst_n hi (by simp [c9, c19, c29])))
          · -- f 29
            refine y_iload_n hE dX4_inCell_32 rfl (lv_at hl 0 rfl) ?_
            rw [hQ]
            exact y_set1 (w := m_o (m_at B n r c)) (by rw [m_at, hv, y_fst_y hi (by simp [c9, c19, c29])]; rfl) (y_iretR hE dX4_inCell_33)
  exact K2 0 (Nat.zero_le _) _ (lv_sub hl [0, 1, 2, 3] rfl) rfl

set_option maxHeartbeats 1000000 in
theorem kX4_factorOf {z : State} {D : yD} (v : Int32) : yR yX4_factorOf (ws_ yX4_factorOf cX4_factorOf 1 (some .int)) (rmD 1 0 0) z D [.int v] (fun _ => True) (some (.int (m_fac v))) := by
  refine yR_of (own := RX4) (by decide +kernel) rfl (Nat.le_of_ble_eq_true rfl) fun E hE hW ls hl => ?_
  obtain ⟨Q, hQ⟩ : ∃ Q, Q = yEr E (some (.int (m_fac v))) := ⟨_, rfl⟩
  rw [← hQ]
  have hl : lv_has ls 1 [(0, .int v)] := hl
  refine y_iload_n hE dX4_factorOf_0 rfl (lv_at hl 0 rfl) ?_
  refine y_iconst (v := 3) hE dX4_factorOf_1 (by decide) ?_
  refine y_icmp_lt (tgt := 11) hE dX4_factorOf_2 (by decide) (fun c2 => ?_) (fun c2 => ?_)
  · -- t 2
    refine y_iconst (v := 0) hE dX4_factorOf_11 (by decide) ?_
    rw [hQ]
    exact y_set1 (w := m_fac v) (by first | rfl | (simp [m_fac, c2, zb]; done) | (simp_all [m_fac, zb]; done) | grind [m_fac]) (y_iretR hE dX4_factorOf_12)
  · -- f 2
    refine y_iload_n hE dX4_factorOf_5 rfl (lv_at hl 0 rfl) ?_
    refine y_bipush (v := 22) hE dX4_factorOf_6 (by decide) ?_
    refine y_icmp_le (tgt := 13) hE dX4_factorOf_8 (by decide) (fun c8 => ?_) (fun c8 => ?_)
    · -- t 8
      refine y_iload_n hE dX4_factorOf_13 rfl (lv_at hl 0 rfl) ?_
      refine y_iconst (v := 5) hE dX4_factorOf_14 (by decide) ?_
      refine y_icmp_ge (tgt := 22) hE dX4_factorOf_15 (by decide) (fun c15 => ?_) (fun c15 => ?_)
      · -- t 15
        refine y_iload_n hE dX4_factorOf_22 rfl (lv_at hl 0 rfl) ?_
        refine y_bipush (v := 8) hE dX4_factorOf_23 (by decide) ?_
        refine y_icmp_ge (tgt := 32) hE dX4_factorOf_25 (by decide) (fun c25 => ?_) (fun c25 => ?_)
        · -- t 25
          refine y_iload_n hE dX4_factorOf_32 rfl (lv_at hl 0 rfl) ?_
          refine y_bipush (v := 12) hE dX4_factorOf_33 (by decide) ?_
          refine y_icmp_ge (tgt := 43) hE dX4_factorOf_35 (by decide) (fun c35 => ?_) (fun c35 => ?_)
          · -- t 35
            refine y_bipush (v := 10) hE dX4_factorOf_43 (by decide) ?_
            rw [hQ]
            exact y_set1 (w := m_fac v) (by first | rfl | (simp [m_fac, c2, c8, c15, c25, c35, zb]; done) | (simp_all [m_fac, zb]; done) | grind [m_fac]) (y_iretR hE dX4_factorOf_45)
          · -- f 35
            refine y_bipush (v := 8) hE dX4_factorOf_38 (by decide) ?_
            refine y_goto (tgt := 45) hE dX4_factorOf_40 (by decide) ?_
            rw [hQ]
            exact y_set1 (w := m_fac v) (by first | rfl | (simp [m_fac, c2, c8, c15, c25, c35, zb]; done) | (simp_all [m_fac, zb]; done) | grind [m_fac]) (y_iretR hE dX4_factorOf_45)
        · -- f 25
          refine y_iconst (v := 5) hE dX4_factorOf_28 (by decide) ?_
          refine y_goto (tgt := 45) hE dX4_factorOf_29 (by decide) ?_
          rw [hQ]
          exact y_set1 (w := m_fac v) (by first | rfl | (simp [m_fac, c2, c8, c15, c25, zb]; done) | (simp_all [m_fac, zb]; done) | grind [m_fac]) (y_iretR hE dX4_factorOf_45)
      · -- f 15
        refine y_iconst (v := 2) hE dX4_factorOf_18 (by decide) ?_
        refine y_goto (tgt := 45) hE dX4_factorOf_19 (by decide) ?_
        rw [hQ]
        exact y_set1 (w := m_fac v) (by first | rfl | (simp [m_fac, c2, c8, c15, zb]; done) | (simp_all [m_fac, zb]; done) | grind [m_fac]) (y_iretR hE dX4_factorOf_45)
    · -- f 8
      refine y_iconst (v := 0) hE dX4_factorOf_11 (by decide) ?_
      rw [hQ]
      exact y_set1 (w := m_fac v) (by first | rfl | (simp [m_fac, c2, c8, zb]; done) | (simp_all [m_fac, zb]; done) | grind [m_fac]) (y_iretR hE dX4_factorOf_12)

set_option maxHeartbeats 1000000 in
theorem kX4_wayOf {z : State} {D : yD} (c : Int32) : yR yX4_wayOf (ws_ yX4_wayOf cX4_wayOf 1 (some .int)) (rmD 1 0 0) z D [.int c] (fun _ => True) (some (.int (m_way c))) := by
  refine yR_of (own := RX4) (by decide +kernel) rfl (Nat.le_of_ble_eq_true rfl) fun E hE hW ls hl => ?_
  obtain ⟨Q, hQ⟩ : ∃ Q, Q = yEr E (some (.int (m_way c))) := ⟨_, rfl⟩
  rw [← hQ]
  have hl : lv_has ls 1 [(0, .int c)] := hl
  refine y_iload_n hE dX4_wayOf_0 rfl (lv_at hl 0 rfl) ?_
  refine y_bipush (v := 78) hE dX4_wayOf_1 (by decide) ?_
  refine y_icmp_ne (tgt := 10) hE dX4_wayOf_3 (by decide) (fun c3 => ?_) (fun c3 => ?_)
  · -- t 3
    refine y_iload_n hE dX4_wayOf_10 rfl (lv_at hl 0 rfl) ?_
    refine y_bipush (v := 69) hE dX4_wayOf_11 (by decide) ?_
    refine y_icmp_ne (tgt := 20) hE dX4_wayOf_13 (by decide) (fun c13 => ?_) (fun c13 => ?_)
    · -- t 13
      refine y_iload_n hE dX4_wayOf_20 rfl (lv_at hl 0 rfl) ?_
      refine y_bipush (v := 83) hE dX4_wayOf_21 (by decide) ?_
      refine y_icmp_ne (tgt := 30) hE dX4_wayOf_23 (by decide) (fun c23 => ?_) (fun c23 => ?_)
      · -- t 23
        refine y_iload_n hE dX4_wayOf_30 rfl (lv_at hl 0 rfl) ?_
        refine y_bipush (v := 87) hE dX4_wayOf_31 (by decide) ?_
        refine y_icmp_ne (tgt := 40) hE dX4_wayOf_33 (by decide) (fun c33 => ?_) (fun c33 => ?_)
        · -- t 33
          refine y_iconst (v := (-1)) hE dX4_wayOf_40 (by decide) ?_
          rw [hQ]
          exact y_set1 (w := m_way c) (by first | rfl | (simp [m_way, c3, c13, c23, c33, zb]; done) | (simp_all [m_way, zb]; done) | grind [m_way]) (y_iretR hE dX4_wayOf_41)
        · -- f 33
          refine y_iconst (v := 3) hE dX4_wayOf_36 (by decide) ?_
          refine y_goto (tgt := 41) hE dX4_wayOf_37 (by decide) ?_
          rw [hQ]
          exact y_set1 (w := m_way c) (by first | rfl | (simp [m_way, c3, c13, c23, c33, zb]; done) | (simp_all [m_way, zb]; done) | grind [m_way]) (y_iretR hE dX4_wayOf_41)
      · -- f 23
        refine y_iconst (v := 2) hE dX4_wayOf_26 (by decide) ?_
        refine y_goto (tgt := 41) hE dX4_wayOf_27 (by decide) ?_
        rw [hQ]
        exact y_set1 (w := m_way c) (by first | rfl | (simp [m_way, c3, c13, c23, zb]; done) | (simp_all [m_way, zb]; done) | grind [m_way]) (y_iretR hE dX4_wayOf_41)
    · -- f 13
      refine y_iconst (v := 1) hE dX4_wayOf_16 (by decide) ?_
      refine y_goto (tgt := 41) hE dX4_wayOf_17 (by decide) ?_
      rw [hQ]
      exact y_set1 (w := m_way c) (by first | rfl | (simp [m_way, c3, c13, zb]; done) | (simp_all [m_way, zb]; done) | grind [m_way]) (y_iretR hE dX4_wayOf_41)
  · -- f 3
    refine y_iconst (v := 0) hE dX4_wayOf_6 (by decide) ?_
    refine y_goto (tgt := 41) hE dX4_wayOf_7 (by decide) ?_
    rw [hQ]
    exact y_set1 (w := m_way c) (by first | rfl | (simp [m_way, c3, zb]; done) | (simp_all [m_way, zb]; done) | grind [m_way]) (y_iretR hE dX4_wayOf_41)

set_option maxHeartbeats 1000000 in
theorem kX4_signOf {z : State} {D : yD} (w : Int32) : yR yX4_signOf (ws_ yX4_signOf cX4_signOf 1 (some .char)) (rmD 1 0 0) z D [.int w] (fun _ => True) (some (.int (m_sign w))) := by
  refine yR_of (own := RX4) (by decide +kernel) rfl (Nat.le_of_ble_eq_true rfl) fun E hE hW ls hl => ?_
  obtain ⟨Q, hQ⟩ : ∃ Q, Q = yEr E (some (.int (m_sign w))) := ⟨_, rfl⟩
  rw [← hQ]
  have hl : lv_has ls 1 [(0, .int w)] := hl
  refine y_iload_n hE dX4_signOf_0 rfl (lv_at hl 0 rfl) ?_
  refine y_if_ne (tgt := 9) hE dX4_signOf_1 (by decide) (fun c1 => ?_) (fun c1 => ?_)
  · -- t 1
    refine y_iload_n hE dX4_signOf_9 rfl (lv_at hl 0 rfl) ?_
    refine y_iconst (v := 1) hE dX4_signOf_10 (by decide) ?_
    refine y_icmp_ne (tgt := 19) hE dX4_signOf_11 (by decide) (fun c11 => ?_) (fun c11 => ?_)
    · -- t 11
      refine y_iload_n hE dX4_signOf_19 rfl (lv_at hl 0 rfl) ?_
      refine y_iconst (v := 2) hE dX4_signOf_20 (by decide) ?_
      refine y_icmp_ne (tgt := 29) hE dX4_signOf_21 (by decide) (fun c21 => ?_) (fun c21 => ?_)
      · -- t 21
        refine y_bipush (v := 87) hE dX4_signOf_29 (by decide) ?_
        rw [hQ]
        exact y_set1 (w := m_sign w) (by first | rfl | (simp [m_sign, c1, c11, c21, zb]; done) | (simp_all [m_sign, zb]; done) | grind [m_sign]) (y_zretR hE (m_sign_nar _) dX4_signOf_31)
      · -- f 21
        refine y_bipush (v := 83) hE dX4_signOf_24 (by decide) ?_
        refine y_goto (tgt := 31) hE dX4_signOf_26 (by decide) ?_
        rw [hQ]
        exact y_set1 (w := m_sign w) (by first | rfl | (simp [m_sign, c1, c11, c21, zb]; done) | (simp_all [m_sign, zb]; done) | grind [m_sign]) (y_zretR hE (m_sign_nar _) dX4_signOf_31)
    · -- f 11
      refine y_bipush (v := 69) hE dX4_signOf_14 (by decide) ?_
      refine y_goto (tgt := 31) hE dX4_signOf_16 (by decide) ?_
      rw [hQ]
      exact y_set1 (w := m_sign w) (by first | rfl | (simp [m_sign, c1, c11, zb]; done) | (simp_all [m_sign, zb]; done) | grind [m_sign]) (y_zretR hE (m_sign_nar _) dX4_signOf_31)
  · -- f 1
    refine y_bipush (v := 78) hE dX4_signOf_4 (by decide) ?_
    refine y_goto (tgt := 31) hE dX4_signOf_6 (by decide) ?_
    rw [hQ]
    exact y_set1 (w := m_sign w) (by first | rfl | (simp [m_sign, c1, zb]; done) | (simp_all [m_sign, zb]; done) | grind [m_sign]) (y_zretR hE (m_sign_nar _) dX4_signOf_31)

set_option maxHeartbeats 1000000 in
theorem kX4_wakeOf {z : State} {D : yD} {m : Nat → Nat} {g B : Nat → Int32} {Bs : Nat → Nat → Int32} {L I C : Nat → Int32} (n : Nat) (k : Nat) (far : Int32) (hn : B 0 = nI n) (hN : n ≤ 12) (hk : k < n) : yR yX4_wakeOf (ws_ yX4_wakeOf cX4_wakeOf 6 (some .int)) (rmD 3 0 0) z D [.ref (m 0), .int (nI k), .int far] (tW z D m g B Bs L I C) (some (.int (m_wake B n k far))) := by
  refine yR_of (own := RX4) (by decide +kernel) rfl (Nat.le_of_ble_eq_true rfl) fun E hE hW ls hl => ?_
  obtain ⟨Q, hQ⟩ : ∃ Q, Q = yEr E (some (.int (m_wake B n k far))) := ⟨_, rfl⟩
  rw [← hQ]
  have hl : lv_has ls 6 [(0, .ref (m 0)), (1, .int (nI k)), (2, .int far)] := hl
  refine y_aload_n hE dX4_wakeOf_0 rfl (lv_at hl 0 rfl) ?_
  refine t_get (v := .ref (m 1)) hE 1 (by decide) q1977 rfl hW rfl dX4_wakeOf_1 ?_
  refine y_iconst (v := 1) hE dX4_wakeOf_4 (by decide) ?_
  refine t_aldB (j := 1) (v := B 1) hE hW (rfl) (by decide) rfl dX4_wakeOf_5 ?_
  have K29 : ∀ ls : Array Slot, lv_has ls 6 [(0, .ref (m 0)), (1, .int (nI k)), (2, .int far)] → yY E (fun _ => False) (e_s E).heap 0 0 Q 29 ls [.int (if B 1 = 0 then -far else if B 1 = 2 then far else 0)] := by
    intro ls hl
    refine y_istore_n (lv' := [(3, .int (if B 1 = 0 then -far else if B 1 = 2 then far else 0)), (0, .ref (m 0)), (1, .int (nI k)), (2, .int far)]) hE dX4_wakeOf_29 rfl hl (by decide) rfl (fun ls hl => ?_)
    refine y_aload_n hE dX4_wakeOf_30 rfl (lv_at hl 1 rfl) ?_
    refine t_get (v := .ref (m 1)) hE 1 (by decide) q1977 rfl hW rfl dX4_wakeOf_31 ?_
    refine y_iconst (v := 1) hE dX4_wakeOf_34 (by decide) ?_
    refine t_aldB (j := 1) (v := B 1) hE hW (rfl) (by decide) rfl dX4_wakeOf_35 ?_
    refine y_iconst (v := 1) hE dX4_wakeOf_36 (by decide) ?_
    have K60 : ∀ ls : Array Slot, lv_has ls 6 [(3, .int (if B 1 = 0 then -far else if B 1 = 2 then far else 0)), (0, .ref (m 0)), (1, .int (nI k)), (2, .int far)] → yY E (fun _ => False) (e_s E).heap 0 0 Q 60 ls [.int (if B 1 = 1 then far else if B 1 = 3 then -far else 0)] := by
      intro ls hl
      refine y_istore (lv' := [(4, .int (if B 1 = 1 then far else if B 1 = 3 then -far else 0)), (3, .int (if B 1 = 0 then -far else if B 1 = 2 then far else 0)), (0, .ref (m 0)), (1, .int (nI k)), (2, .int far)]) hE dX4_wakeOf_60 hl (by decide) rfl (fun ls hl => ?_)
      refine y_aload_n hE dX4_wakeOf_62 rfl (lv_at hl 2 rfl) ?_
      refine y_aload_n hE dX4_wakeOf_63 rfl (lv_at hl 2 rfl) ?_
      refine y_iload_n hE dX4_wakeOf_64 rfl (lv_at hl 3 rfl) ?_
      refine y_iconst (v := 0) hE dX4_wakeOf_65 (by decide) ?_
      -- call t ['k', '0']
      refine y_roV (rest := [.ref (m 0)]) hE cl_X4_57 (kX4_t k 0 (by omega) (by omega)) dX4_wakeOf_66 hl (Nat.le_of_ble_eq_true rfl) (y_recv hE rfl hW.1) rfl rfl (Nat.le_of_ble_eq_true rfl) hW ⟨(Nat.le_of_ble_eq_true rfl), (Nat.le_of_ble_eq_true rfl)⟩ ?_
      refine y_iload_n hE dX4_wakeOf_69 rfl (lv_at hl 1 rfl) ?_
      refine y_iadd hE dX4_wakeOf_70 ?_
      refine y_aload_n hE dX4_wakeOf_71 rfl (lv_at hl 2 rfl) ?_
      refine y_iload_n hE dX4_wakeOf_72 rfl (lv_at hl 3 rfl) ?_
      refine y_iconst (v := 1) hE dX4_wakeOf_73 (by decide) ?_
      -- call t ['k', '1']
      refine y_roV (rest := [.int ((m_t B k 0) + (if B 1 = 0 then -far else if B 1 = 2 then far else 0)), .ref (m 0)]) hE cl_X4_57 (kX4_t k 1 (by omega) (by omega)) dX4_wakeOf_74 hl (Nat.le_of_ble_eq_true rfl) (y_recv hE rfl hW.1) rfl rfl (Nat.le_of_ble_eq_true rfl) hW ⟨(Nat.le_of_ble_eq_true rfl), (Nat.le_of_ble_eq_true rfl)⟩ ?_
      refine y_iload hE dX4_wakeOf_77 (lv_at hl 0 rfl) ?_
      refine y_iadd hE dX4_wakeOf_79 ?_
      -- call inCell ['(m_t B k 0) + (if B 1 = 0 then -far else if B 1 = 2 then far else 0)', '(m_t B k 1) + (if B 1 = 1 then far else if B 1 = 3 then -far else 0)']
      refine y_roV (rest := []) hE cl_X4_61 (kX4_inCell n ((m_t B k 0) + (if B 1 = 0 then -far else if B 1 = 2 then far else 0)) ((m_t B k 1) + (if B 1 = 1 then far else if B 1 = 3 then -far else 0)) hn hN) dX4_wakeOf_80 hl (Nat.le_of_ble_eq_true rfl) (y_recv hE rfl hW.1) rfl rfl (Nat.le_of_ble_eq_true rfl) hW ⟨(Nat.le_of_ble_eq_true rfl), (Nat.le_of_ble_eq_true rfl)⟩ ?_
      rcases ho : m_at B n (m_t B k 0 + (if B 1 = 0 then -far else if B 1 = 2 then far else 0)) (m_t B k 1 + (if B 1 = 1 then far else if B 1 = 3 then -far else 0)) with _ | j
      · -- case
        refine y_set1 (w := -1) (rfl) ?_
        refine y_istore (lv' := [(5, .int (-1)), (4, .int (if B 1 = 1 then far else if B 1 = 3 then -far else 0)), (3, .int (if B 1 = 0 then -far else if B 1 = 2 then far else 0)), (0, .ref (m 0)), (1, .int (nI k)), (2, .int far)]) hE dX4_wakeOf_83 hl (by decide) rfl (fun ls hl => ?_)
        refine y_iload hE dX4_wakeOf_85 (lv_at hl 0 rfl) ?_
        refine y_if_lt (tgt := 104) hE dX4_wakeOf_87 (by decide) (fun c87 => ?_) (fun c87 => ?_)
        · -- t 87
          refine y_iconst (v := 0) hE dX4_wakeOf_104 (by decide) ?_
          rw [hQ]
          exact y_set1 (w := m_wake B n k far) (by rw [m_wake, m_wakeAt, ho]; try simp []) (y_iretR hE dX4_wakeOf_105)
        · -- f 87
          exact absurd c87 (by decide)
      · -- case
        have hj := m_at_lt ho
        refine y_set1 (w := nI j) (rfl) ?_
        refine y_istore (lv' := [(5, .int (nI j)), (4, .int (if B 1 = 1 then far else if B 1 = 3 then -far else 0)), (3, .int (if B 1 = 0 then -far else if B 1 = 2 then far else 0)), (0, .ref (m 0)), (1, .int (nI k)), (2, .int far)]) hE dX4_wakeOf_83 hl (by decide) rfl (fun ls hl => ?_)
        refine y_iload hE dX4_wakeOf_85 (lv_at hl 0 rfl) ?_
        refine y_if_lt (tgt := 104) hE dX4_wakeOf_87 (by decide) (fun c87 => ?_) (fun c87 => ?_)
        · -- t 87
          exact absurd c87 (nI_pos (by omega))
        · -- f 87
          refine y_aload_n hE dX4_wakeOf_90 rfl (lv_at hl 3 rfl) ?_
          refine y_iload hE dX4_wakeOf_91 (lv_at hl 0 rfl) ?_
          refine y_iconst (v := 3) hE dX4_wakeOf_93 (by decide) ?_
          -- call t ['j', '3']
          refine y_roV (rest := []) hE cl_X4_57 (kX4_t j 3 (by omega) (by omega)) dX4_wakeOf_94 hl (Nat.le_of_ble_eq_true rfl) (y_recv hE rfl hW.1) rfl rfl (Nat.le_of_ble_eq_true rfl) hW ⟨(Nat.le_of_ble_eq_true rfl), (Nat.le_of_ble_eq_true rfl)⟩ ?_
          refine y_if_ne (tgt := 104) hE dX4_wakeOf_97 (by decide) (fun c97 => ?_) (fun c97 => ?_)
          · -- t 97
            refine y_iconst (v := 0) hE dX4_wakeOf_104 (by decide) ?_
            rw [hQ]
            exact y_set1 (w := m_wake B n k far) (by rw [m_wake, m_wakeAt, ho]; try simp [c97]) (y_iretR hE dX4_wakeOf_105)
          · -- f 97
            refine y_iconst (v := 1) hE dX4_wakeOf_100 (by decide) ?_
            refine y_goto (tgt := 105) hE dX4_wakeOf_101 (by decide) ?_
            rw [hQ]
            exact y_set1 (w := m_wake B n k far) (by rw [m_wake, m_wakeAt, ho]; try simp [c97]) (y_iretR hE dX4_wakeOf_105)
    refine y_icmp_ne (tgt := 44) hE dX4_wakeOf_37 (by decide) (fun c37 => ?_) (fun c37 => ?_)
    · -- t 37
      refine y_aload_n hE dX4_wakeOf_44 rfl (lv_at hl 1 rfl) ?_
      refine t_get (v := .ref (m 1)) hE 1 (by decide) q1977 rfl hW rfl dX4_wakeOf_45 ?_
      refine y_iconst (v := 1) hE dX4_wakeOf_48 (by decide) ?_
      refine t_aldB (j := 1) (v := B 1) hE hW (rfl) (by decide) rfl dX4_wakeOf_49 ?_
      refine y_iconst (v := 3) hE dX4_wakeOf_50 (by decide) ?_
      refine y_icmp_ne (tgt := 59) hE dX4_wakeOf_51 (by decide) (fun c51 => ?_) (fun c51 => ?_)
      · -- t 51
        refine y_iconst (v := 0) hE dX4_wakeOf_59 (by decide) ?_
        exact y_set1 ((by first | rfl | (simp_all; done) | grind)) (K60 _ hl)
      · -- f 51
        refine y_iload_n hE dX4_wakeOf_54 rfl (lv_at hl 3 rfl) ?_
        refine y_ineg hE dX4_wakeOf_55 ?_
        refine y_goto (tgt := 60) hE dX4_wakeOf_56 (by decide) ?_
        exact y_set1 ((by first | rfl | (simp_all; done) | grind)) (K60 _ hl)
    · -- f 37
      refine y_iload_n hE dX4_wakeOf_40 rfl (lv_at hl 3 rfl) ?_
      refine y_goto (tgt := 60) hE dX4_wakeOf_41 (by decide) ?_
      exact y_set1 ((by first | rfl | (simp_all; done) | grind)) (K60 _ hl)
  refine y_if_ne (tgt := 14) hE dX4_wakeOf_6 (by decide) (fun c6 => ?_) (fun c6 => ?_)
  · -- t 6
    refine y_aload_n hE dX4_wakeOf_14 rfl (lv_at hl 0 rfl) ?_
    refine t_get (v := .ref (m 1)) hE 1 (by decide) q1977 rfl hW rfl dX4_wakeOf_15 ?_
    refine y_iconst (v := 1) hE dX4_wakeOf_18 (by decide) ?_
    refine t_aldB (j := 1) (v := B 1) hE hW (rfl) (by decide) rfl dX4_wakeOf_19 ?_
    refine y_iconst (v := 2) hE dX4_wakeOf_20 (by decide) ?_
    refine y_icmp_ne (tgt := 28) hE dX4_wakeOf_21 (by decide) (fun c21 => ?_) (fun c21 => ?_)
    · -- t 21
      refine y_iconst (v := 0) hE dX4_wakeOf_28 (by decide) ?_
      exact y_set1 ((by first | rfl | (simp_all; done) | grind)) (K29 _ hl)
    · -- f 21
      refine y_iload_n hE dX4_wakeOf_24 rfl (lv_at hl 2 rfl) ?_
      refine y_goto (tgt := 29) hE dX4_wakeOf_25 (by decide) ?_
      exact y_set1 ((by first | rfl | (simp_all; done) | grind)) (K29 _ hl)
  · -- f 6
    refine y_iload_n hE dX4_wakeOf_9 rfl (lv_at hl 2 rfl) ?_
    refine y_ineg hE dX4_wakeOf_10 ?_
    refine y_goto (tgt := 29) hE dX4_wakeOf_11 (by decide) ?_
    exact y_set1 ((by first | rfl | (simp_all; done) | grind)) (K29 _ hl)

set_option maxHeartbeats 1000000 in
theorem kX4_lossOf {z : State} {D : yD} {m : Nat → Nat} {g B : Nat → Int32} {Bs : Nat → Nat → Int32} {L I C : Nat → Int32} (n : Nat) (k : Nat) (hn : B 0 = nI n) (hN : n ≤ 12) (hk : k < n) : yR yX4_lossOf (ws_ yX4_lossOf cX4_lossOf 2 (some .int)) (rmD 4 0 0) z D [.ref (m 0), .int (nI k)] (tW z D m g B Bs L I C) (some (.int (m_loss B n k))) := by
  refine yR_of (own := RX4) (by decide +kernel) rfl (Nat.le_of_ble_eq_true rfl) fun E hE hW ls hl => ?_
  obtain ⟨Q, hQ⟩ : ∃ Q, Q = yEr E (some (.int (m_loss B n k))) := ⟨_, rfl⟩
  rw [← hQ]
  have hl : lv_has ls 2 [(0, .ref (m 0)), (1, .int (nI k))] := hl
  refine y_iconst (v := 3) hE dX4_lossOf_0 (by decide) ?_
  refine y_aload_n hE dX4_lossOf_1 rfl (lv_at hl 0 rfl) ?_
  refine y_iload_n hE dX4_lossOf_2 rfl (lv_at hl 1 rfl) ?_
  refine y_iconst (v := 1) hE dX4_lossOf_3 (by decide) ?_
  -- call wakeOf ['k', '1']
  refine y_roV (rest := [.int 3]) hE cl_X4_64 (kX4_wakeOf n k 1 hn hN (by omega)) dX4_lossOf_4 hl (Nat.le_of_ble_eq_true rfl) (y_recv hE rfl hW.1) rfl rfl (Nat.le_of_ble_eq_true rfl) hW ⟨(Nat.le_of_ble_eq_true rfl), (Nat.le_of_ble_eq_true rfl)⟩ ?_
  refine y_imul hE dX4_lossOf_7 ?_
  refine y_aload_n hE dX4_lossOf_8 rfl (lv_at hl 0 rfl) ?_
  refine y_iload_n hE dX4_lossOf_9 rfl (lv_at hl 1 rfl) ?_
  refine y_iconst (v := 2) hE dX4_lossOf_10 (by decide) ?_
  -- call wakeOf ['k', '2']
  refine y_roV (rest := [.int (3 * (m_wake B n k 1))]) hE cl_X4_64 (kX4_wakeOf n k 2 hn hN (by omega)) dX4_lossOf_11 hl (Nat.le_of_ble_eq_true rfl) (y_recv hE rfl hW.1) rfl rfl (Nat.le_of_ble_eq_true rfl) hW ⟨(Nat.le_of_ble_eq_true rfl), (Nat.le_of_ble_eq_true rfl)⟩ ?_
  refine y_iadd hE dX4_lossOf_14 ?_
  rw [hQ]
  exact y_set1 (w := m_loss B n k) (by first | rfl | (simp [zb]; done) | (simp_all [zb]; done) | grind []) (y_iretR hE dX4_lossOf_15)

set_option maxHeartbeats 1000000 in
theorem kX4_available {z : State} {D : yD} {m : Nat → Nat} {g B : Nat → Int32} {Bs : Nat → Nat → Int32} {L I C : Nat → Int32} (n : Nat) (k : Nat) (hn : B 0 = nI n) (hN : n ≤ 12) (hk : k < n) : yR yX4_available (ws_ yX4_available cX4_available 3 (some .int)) (rmD 5 0 0) z D [.ref (m 0), .int (nI k)] (tW z D m g B Bs L I C) (some (.int (m_avail B n k))) := by
  refine yR_of (own := RX4) (by decide +kernel) rfl (Nat.le_of_ble_eq_true rfl) fun E hE hW ls hl => ?_
  obtain ⟨Q, hQ⟩ : ∃ Q, Q = yEr E (some (.int (m_avail B n k))) := ⟨_, rfl⟩
  rw [← hQ]
  have hl : lv_has ls 3 [(0, .ref (m 0)), (1, .int (nI k))] := hl
  refine y_aload_n hE dX4_available_0 rfl (lv_at hl 0 rfl) ?_
  refine t_get (v := .ref (m 1)) hE 1 (by decide) q1977 rfl hW rfl dX4_available_1 ?_
  refine y_iconst (v := 2) hE dX4_available_4 (by decide) ?_
  refine t_aldB (j := 2) (v := B 2) hE hW (rfl) (by decide) rfl dX4_available_5 ?_
  -- call factorOf ['B 2']
  refine y_roS (rest := []) hE cl_X4_67 (kX4_factorOf (B 2)) dX4_available_6 hl (Nat.le_of_ble_eq_true rfl) rfl rfl (Nat.le_of_ble_eq_true rfl) trivial ⟨(Nat.le_of_ble_eq_true rfl), (Nat.le_of_ble_eq_true rfl)⟩ ?_
  refine y_aload_n hE dX4_available_9 rfl (lv_at hl 0 rfl) ?_
  refine y_iload_n hE dX4_available_10 rfl (lv_at hl 1 rfl) ?_
  -- call lossOf ['k']
  refine y_roV (rest := [.int (m_fac (B 2))]) hE cl_X4_71 (kX4_lossOf n k hn hN (by omega)) dX4_available_11 hl (Nat.le_of_ble_eq_true rfl) (y_recv hE rfl hW.1) rfl rfl (Nat.le_of_ble_eq_true rfl) hW ⟨(Nat.le_of_ble_eq_true rfl), (Nat.le_of_ble_eq_true rfl)⟩ ?_
  refine y_isub hE dX4_available_14 ?_
  refine y_istore_n (lv' := [(2, .int ((m_fac (B 2)) - (m_loss B n k))), (0, .ref (m 0)), (1, .int (nI k))]) hE dX4_available_15 rfl hl (by decide) rfl (fun ls hl => ?_)
  refine y_aload_n hE dX4_available_16 rfl (lv_at hl 1 rfl) ?_
  refine y_iload_n hE dX4_available_17 rfl (lv_at hl 2 rfl) ?_
  refine y_iconst (v := 3) hE dX4_available_18 (by decide) ?_
  -- call t ['k', '3']
  refine y_roV (rest := []) hE cl_X4_57 (kX4_t k 3 (by omega) (by omega)) dX4_available_19 hl (Nat.le_of_ble_eq_true rfl) (y_recv hE rfl hW.1) rfl rfl (Nat.le_of_ble_eq_true rfl) hW ⟨(Nat.le_of_ble_eq_true rfl), (Nat.le_of_ble_eq_true rfl)⟩ ?_
  refine y_if_ne (tgt := 29) hE dX4_available_22 (by decide) (fun c22 => ?_) (fun c22 => ?_)
  · -- t 22
    refine y_iconst (v := 0) hE dX4_available_29 (by decide) ?_
    refine y_goto (tgt := 41) hE dX4_available_30 (by decide) ?_
    rw [hQ]
    exact y_set1 (w := m_avail B n k) (by first | rfl | (simp [m_avail, c22, zb]; done) | (simp_all [m_avail, zb]; done) | grind [m_avail]) (y_iretR hE dX4_available_41)
  · -- f 22
    refine y_iload_n hE dX4_available_25 rfl (lv_at hl 0 rfl) ?_
    refine y_if_ge (tgt := 33) hE dX4_available_26 (by decide) (fun c26 => ?_) (fun c26 => ?_)
    · -- t 26
      refine y_aload_n hE dX4_available_33 rfl (lv_at hl 1 rfl) ?_
      refine y_iload_n hE dX4_available_34 rfl (lv_at hl 2 rfl) ?_
      refine y_iconst (v := 2) hE dX4_available_35 (by decide) ?_
      -- call t ['k', '2']
      refine y_roV (rest := []) hE cl_X4_57 (kX4_t k 2 (by omega) (by omega)) dX4_available_36 hl (Nat.le_of_ble_eq_true rfl) (y_recv hE rfl hW.1) rfl rfl (Nat.le_of_ble_eq_true rfl) hW ⟨(Nat.le_of_ble_eq_true rfl), (Nat.le_of_ble_eq_true rfl)⟩ ?_
      refine y_iload_n hE dX4_available_39 rfl (lv_at hl 0 rfl) ?_
      refine y_imul hE dX4_available_40 ?_
      rw [hQ]
      exact y_set1 (w := m_avail B n k) (by first | rfl | (simp [m_avail, c22, c26, zb]; done) | (simp_all [m_avail, zb]; done) | grind [m_avail]) (y_iretR hE dX4_available_41)
    · -- f 26
      refine y_iconst (v := 0) hE dX4_available_29 (by decide) ?_
      refine y_goto (tgt := 41) hE dX4_available_30 (by decide) ?_
      rw [hQ]
      exact y_set1 (w := m_avail B n k) (by first | rfl | (simp [m_avail, c22, c26, zb]; done) | (simp_all [m_avail, zb]; done) | grind [m_avail]) (y_iretR hE dX4_available_41)

set_option maxHeartbeats 1000000 in
theorem kX4_output {z : State} {D : yD} {m : Nat → Nat} {g B : Nat → Int32} {Bs : Nat → Nat → Int32} {L I C : Nat → Int32} (n : Nat) (k : Nat) (hn : B 0 = nI n) (hN : n ≤ 12) (hk : k < n) : yR yX4_output (ws_ yX4_output cX4_output 4 (some .int)) (rmD 6 0 0) z D [.ref (m 0), .int (nI k)] (tW z D m g B Bs L I C) (some (.int (m_out B n k))) := by
  refine yR_of (own := RX4) (by decide +kernel) rfl (Nat.le_of_ble_eq_true rfl) fun E hE hW ls hl => ?_
  obtain ⟨Q, hQ⟩ : ∃ Q, Q = yEr E (some (.int (m_out B n k))) := ⟨_, rfl⟩
  rw [← hQ]
  have hl : lv_has ls 4 [(0, .ref (m 0)), (1, .int (nI k))] := hl
  refine y_aload_n hE dX4_output_0 rfl (lv_at hl 0 rfl) ?_
  refine y_iload_n hE dX4_output_1 rfl (lv_at hl 1 rfl) ?_
  -- call available ['k']
  refine y_roV (rest := []) hE cl_X4_74 (kX4_available n k hn hN (by omega)) dX4_output_2 hl (Nat.le_of_ble_eq_true rfl) (y_recv hE rfl hW.1) rfl rfl (Nat.le_of_ble_eq_true rfl) hW ⟨(Nat.le_of_ble_eq_true rfl), (Nat.le_of_ble_eq_true rfl)⟩ ?_
  refine y_istore_n (lv' := [(2, .int (m_avail B n k)), (0, .ref (m 0)), (1, .int (nI k))]) hE dX4_output_5 rfl hl (by decide) rfl (fun ls hl => ?_)
  refine y_aload_n hE dX4_output_6 rfl (lv_at hl 1 rfl) ?_
  refine y_iload_n hE dX4_output_7 rfl (lv_at hl 2 rfl) ?_
  refine y_iconst (v := 5) hE dX4_output_8 (by decide) ?_
  -- call t ['k', '5']
  refine y_roV (rest := []) hE cl_X4_57 (kX4_t k 5 (by omega) (by omega)) dX4_output_9 hl (Nat.le_of_ble_eq_true rfl) (y_recv hE rfl hW.1) rfl rfl (Nat.le_of_ble_eq_true rfl) hW ⟨(Nat.le_of_ble_eq_true rfl), (Nat.le_of_ble_eq_true rfl)⟩ ?_
  refine y_iconst (v := 1) hE dX4_output_12 (by decide) ?_
  refine y_isub hE dX4_output_13 ?_
  refine y_istore_n (lv' := [(3, .int ((m_t B k 5) - 1)), (2, .int (m_avail B n k)), (0, .ref (m 0)), (1, .int (nI k))]) hE dX4_output_14 rfl hl (by decide) rfl (fun ls hl => ?_)
  refine y_iload_n hE dX4_output_15 rfl (lv_at hl 0 rfl) ?_
  refine y_if_lt (tgt := 28) hE dX4_output_16 (by decide) (fun c16 => ?_) (fun c16 => ?_)
  · -- t 16
    refine y_iload_n hE dX4_output_28 rfl (lv_at hl 1 rfl) ?_
    rw [hQ]
    exact y_set1 (w := m_out B n k) (by first | rfl | (simp [m_out, c16, zb]; done) | (simp_all [m_out, zb]; done) | grind [m_out]) (y_iretR hE dX4_output_29)
  · -- f 16
    refine y_iload_n hE dX4_output_19 rfl (lv_at hl 0 rfl) ?_
    refine y_iload_n hE dX4_output_20 rfl (lv_at hl 1 rfl) ?_
    refine y_icmp_ge (tgt := 28) hE dX4_output_21 (by decide) (fun c21 => ?_) (fun c21 => ?_)
    · -- t 21
      refine y_iload_n hE dX4_output_28 rfl (lv_at hl 1 rfl) ?_
      rw [hQ]
      exact y_set1 (w := m_out B n k) (by first | rfl | (simp [m_out, c16, c21, zb]; done) | (simp_all [m_out, zb]; done) | grind [m_out]) (y_iretR hE dX4_output_29)
    · -- f 21
      refine y_iload_n hE dX4_output_24 rfl (lv_at hl 0 rfl) ?_
      refine y_goto (tgt := 29) hE dX4_output_25 (by decide) ?_
      rw [hQ]
      exact y_set1 (w := m_out B n k) (by first | rfl | (simp [m_out, c16, c21, zb]; done) | (simp_all [m_out, zb]; done) | grind [m_out]) (y_iretR hE dX4_output_29)

set_option maxHeartbeats 1000000 in
theorem kX4_total {z : State} {D : yD} {m : Nat → Nat} {g B : Nat → Int32} {Bs : Nat → Nat → Int32} {L I C : Nat → Int32} (n : Nat) (hn : B 0 = nI n) (hN : n ≤ 12) : yR yX4_total (ws_ yX4_total cX4_total 3 (some .int)) (rmD 7 0 0) z D [.ref (m 0)] (tW z D m g B Bs L I C) (some (.int (m_total B n))) := by
  refine yR_of (own := RX4) (by decide +kernel) rfl (Nat.le_of_ble_eq_true rfl) fun E hE hW ls hl => ?_
  obtain ⟨Q, hQ⟩ : ∃ Q, Q = yEr E (some (.int (m_total B n))) := ⟨_, rfl⟩
  rw [← hQ]
  have hl : lv_has ls 3 [(0, .ref (m 0))] := hl
  refine y_iconst (v := 0) hE dX4_total_0 (by decide) ?_
  refine y_istore_n (lv' := [(1, .int 0), (0, .ref (m 0))]) hE dX4_total_1 rfl hl (by decide) rfl (fun ls hl => ?_)
  refine y_iconst (v := 0) hE dX4_total_2 (by decide) ?_
  refine y_istore_n (lv' := [(2, .int 0), (1, .int 0), (0, .ref (m 0))]) hE dX4_total_3 rfl hl (by decide) rfl (fun ls hl => ?_)
  have K4 : ∀ i : Nat, i ≤ n → ∀ ls : Array Slot, lv_has ls 3 [(2, .int (nI i)), (1, .int (y_sum (fun k => m_out B n k) i)), (0, .ref (m 0))] → yY E (fun _ => False) (e_s E).heap 0 0 Q 4 ls [] := by
    refine y_loop ?_ ?_
    · -- the end of the loop at 4
      intro ls hl 
      refine y_iload_n hE dX4_total_4 rfl (lv_at hl 0 rfl) ?_
      refine y_aload_n hE dX4_total_5 rfl (lv_at hl 2 rfl) ?_
      refine t_get (v := .ref (m 1)) hE 1 (by decide) q1977 rfl hW rfl dX4_total_6 ?_
      refine y_iconst (v := 0) hE dX4_total_9 (by decide) ?_
      refine t_aldB (j := 0) (v := B 0) hE hW (rfl) (by decide) rfl dX4_total_10 ?_
      refine y_set1 (w := nI n) (hn) ?_
      refine y_icmp_ge (tgt := 28) hE dX4_total_11 (by decide) (fun c11 => ?_) (fun c11 => ?_)
      · -- t 11
        refine y_iload_n hE dX4_total_28 rfl (lv_at hl 1 rfl) ?_
        rw [hQ]
        exact y_set1 (w := m_total B n) rfl (y_iretR hE dX4_total_29)
      · -- f 11
        exact absurd (nI_le (Nat.le_refl _) (by omega)) c11
    · -- a round of the loop at 4
      intro i hi ih4 ls hl 
      refine y_iload_n hE dX4_total_4 rfl (lv_at hl 0 rfl) ?_
      refine y_aload_n hE dX4_total_5 rfl (lv_at hl 2 rfl) ?_
      refine t_get (v := .ref (m 1)) hE 1 (by decide) q1977 rfl hW rfl dX4_total_6 ?_
      refine y_iconst (v := 0) hE dX4_total_9 (by decide) ?_
      refine t_aldB (j := 0) (v := B 0) hE hW (rfl) (by decide) rfl dX4_total_10 ?_
      refine y_set1 (w := nI n) (hn) ?_
      refine y_icmp_ge (tgt := 28) hE dX4_total_11 (by decide) (fun c11 => ?_) (fun c11 => ?_)
      · -- t 11
        exact absurd c11 (nI_ge hi (by omega))
      · -- f 11
        refine y_iload_n hE dX4_total_14 rfl (lv_at hl 1 rfl) ?_
        refine y_aload_n hE dX4_total_15 rfl (lv_at hl 2 rfl) ?_
        refine y_iload_n hE dX4_total_16 rfl (lv_at hl 0 rfl) ?_
        -- call output ['i']
        refine y_roV (rest := [.int (y_sum (fun k => m_out B n k) i)]) hE cl_X4_77 (kX4_output n i hn hN (by omega)) dX4_total_17 hl (Nat.le_of_ble_eq_true rfl) (y_recv hE rfl hW.1) rfl rfl (Nat.le_of_ble_eq_true rfl) hW ⟨(Nat.le_of_ble_eq_true rfl), (Nat.le_of_ble_eq_true rfl)⟩ ?_
        refine y_iadd hE dX4_total_20 ?_
        refine y_istore_n (lv' := [(1, .int ((y_sum (fun k => m_out B n k) i) + (m_out B n i))), (2, .int (nI i)), (0, .ref (m 0))]) hE dX4_total_21 rfl hl (by decide) rfl (fun ls hl => ?_)
        refine y_iinc (v := nI (i + 1)) (lv' := [(2, .int (nI (i + 1))), (1, .int ((y_sum (fun k => m_out B n k) i) + (m_out B n i))), (0, .ref (m 0))]) hE dX4_total_22 hl (k := 1) rfl (nI_1 i) (by decide) rfl (fun ls hl => ?_)
        refine y_goto (tgt := 4) hE dX4_total_25 (by decide) ?_
        exact ih4 _ (lv_sub hl [0, 1, 2] rfl)
  exact K4 0 (Nat.zero_le _) _ (lv_sub hl [0, 1, 2] rfl)

set_option maxHeartbeats 1000000 in
theorem kX4_inState {z : State} {D : yD} {m : Nat → Nat} {g B : Nat → Int32} {Bs : Nat → Nat → Int32} {L I C : Nat → Int32} (n : Nat) (s : Int32) (hn : B 0 = nI n) (hN : n ≤ 12) : yR yX4_inState (ws_ yX4_inState cX4_inState 4 (some .int)) (rmD 2 0 0) z D [.ref (m 0), .int s] (tW z D m g B Bs L I C) (some (.int (m_inSt B n s))) := by
  refine yR_of (own := RX4) (by decide +kernel) rfl (Nat.le_of_ble_eq_true rfl) fun E hE hW ls hl => ?_
  obtain ⟨Q, hQ⟩ : ∃ Q, Q = yEr E (some (.int (m_inSt B n s))) := ⟨_, rfl⟩
  rw [← hQ]
  have hl : lv_has ls 4 [(0, .ref (m 0)), (1, .int s)] := hl
  refine y_iconst (v := 0) hE dX4_inState_0 (by decide) ?_
  refine y_istore_n (lv' := [(2, .int 0), (0, .ref (m 0)), (1, .int s)]) hE dX4_inState_1 rfl hl (by decide) rfl (fun ls hl => ?_)
  refine y_iconst (v := 0) hE dX4_inState_2 (by decide) ?_
  refine y_istore_n (lv' := [(3, .int 0), (2, .int 0), (0, .ref (m 0)), (1, .int s)]) hE dX4_inState_3 rfl hl (by decide) rfl (fun ls hl => ?_)
  have K4 : ∀ i : Nat, i ≤ n → ∀ ls : Array Slot, lv_has ls 4 [(3, .int (nI i)), (2, .int (y_sum (fun k => if m_t B k 3 = s then 1 else 0) i)), (0, .ref (m 0)), (1, .int s)] → yY E (fun _ => False) (e_s E).heap 0 0 Q 4 ls [] := by
    refine y_loop ?_ ?_
    · -- the end of the loop at 4
      intro ls hl 
      refine y_iload_n hE dX4_inState_4 rfl (lv_at hl 0 rfl) ?_
      refine y_aload_n hE dX4_inState_5 rfl (lv_at hl 2 rfl) ?_
      refine t_get (v := .ref (m 1)) hE 1 (by decide) q1977 rfl hW rfl dX4_inState_6 ?_
      refine y_iconst (v := 0) hE dX4_inState_9 (by decide) ?_
      refine t_aldB (j := 0) (v := B 0) hE hW (rfl) (by decide) rfl dX4_inState_10 ?_
      refine y_set1 (w := nI n) (hn) ?_
      refine y_icmp_ge (tgt := 38) hE dX4_inState_11 (by decide) (fun c11 => ?_) (fun c11 => ?_)
      · -- t 11
        refine y_iload_n hE dX4_inState_38 rfl (lv_at hl 1 rfl) ?_
        rw [hQ]
        exact y_set1 (w := m_inSt B n s) rfl (y_iretR hE dX4_inState_39)
      · -- f 11
        exact absurd (nI_le (Nat.le_refl _) (by omega)) c11
    · -- a round of the loop at 4
      intro i hi ih4 ls hl 
      refine y_iload_n hE dX4_inState_4 rfl (lv_at hl 0 rfl) ?_
      refine y_aload_n hE dX4_inState_5 rfl (lv_at hl 2 rfl) ?_
      refine t_get (v := .ref (m 1)) hE 1 (by decide) q1977 rfl hW rfl dX4_inState_6 ?_
      refine y_iconst (v := 0) hE dX4_inState_9 (by decide) ?_
      refine t_aldB (j := 0) (v := B 0) hE hW (rfl) (by decide) rfl dX4_inState_10 ?_
      refine y_set1 (w := nI n) (hn) ?_
      refine y_icmp_ge (tgt := 38) hE dX4_inState_11 (by decide) (fun c11 => ?_) (fun c11 => ?_)
      · -- t 11
        exact absurd c11 (nI_ge hi (by omega))
      · -- f 11
        refine y_iload_n hE dX4_inState_14 rfl (lv_at hl 1 rfl) ?_
        refine y_aload_n hE dX4_inState_15 rfl (lv_at hl 2 rfl) ?_
        refine y_iload_n hE dX4_inState_16 rfl (lv_at hl 0 rfl) ?_
        refine y_iconst (v := 3) hE dX4_inState_17 (by decide) ?_
        -- call t ['i', '3']
        refine y_roV (rest := [.int (y_sum (fun k => if m_t B k 3 = s then 1 else 0) i)]) hE cl_X4_57 (kX4_t i 3 (by omega) (by omega)) dX4_inState_18 hl (Nat.le_of_ble_eq_true rfl) (y_recv hE rfl hW.1) rfl rfl (Nat.le_of_ble_eq_true rfl) hW ⟨(Nat.le_of_ble_eq_true rfl), (Nat.le_of_ble_eq_true rfl)⟩ ?_
        refine y_iload_n hE dX4_inState_21 rfl (lv_at hl 3 rfl) ?_
        have K30 : ∀ ls : Array Slot, lv_has ls 4 [(3, .int (nI i)), (2, .int (y_sum (fun k => if m_t B k 3 = s then 1 else 0) i)), (0, .ref (m 0)), (1, .int s)] → yY E (fun _ => False) (e_s E).heap 0 0 Q 30 ls [.int (if m_t B i 3 = s then 1 else 0), .int (y_sum (fun k => if m_t B k 3 = s then 1 else 0) i)] := by
          intro ls hl
          refine y_iadd hE dX4_inState_30 ?_
          refine y_istore_n (lv' := [(2, .int ((y_sum (fun k => if m_t B k 3 = s then 1 else 0) i) + (if m_t B i 3 = s then 1 else 0))), (3, .int (nI i)), (0, .ref (m 0)), (1, .int s)]) hE dX4_inState_31 rfl hl (by decide) rfl (fun ls hl => ?_)
          refine y_iinc (v := nI (i + 1)) (lv' := [(3, .int (nI (i + 1))), (2, .int ((y_sum (fun k => if m_t B k 3 = s then 1 else 0) i) + (if m_t B i 3 = s then 1 else 0))), (0, .ref (m 0)), (1, .int s)]) hE dX4_inState_32 hl (k := 1) rfl (nI_1 i) (by decide) rfl (fun ls hl => ?_)
          refine y_goto (tgt := 4) hE dX4_inState_35 (by decide) ?_
          exact ih4 _ (lv_sub hl [0, 1, 2, 3] rfl)
        refine y_icmp_ne (tgt := 29) hE dX4_inState_22 (by decide) (fun c22 => ?_) (fun c22 => ?_)
        · -- t 22
          refine y_iconst (v := 0) hE dX4_inState_29 (by decide) ?_
          exact y_set1 ((by first | rfl | (simp_all; done) | grind)) (K30 _ hl)
        · -- f 22
          refine y_iconst (v := 1) hE dX4_inState_25 (by decide) ?_
          refine y_goto (tgt := 30) hE dX4_inState_26 (by decide) ?_
          exact y_set1 ((by first | rfl | (simp_all; done) | grind)) (K30 _ hl)
  exact K4 0 (Nat.zero_le _) _ (lv_sub hl [0, 1, 2, 3] rfl)

set_option maxHeartbeats 1000000 in
theorem kX4_firstInService {z : State} {D : yD} {m : Nat → Nat} {g B : Nat → Int32} {Bs : Nat → Nat → Int32} {L I C : Nat → Int32} (n : Nat) (hn : B 0 = nI n) (hN : n ≤ 12) : yR yX4_firstInService (ws_ yX4_firstInService cX4_firstInService 2 (some .int)) (rmD 2 0 0) z D [.ref (m 0)] (tW z D m g B Bs L I C) (some (.int (m_o0 (m_first B n)))) := by
  refine yR_of (own := RX4) (by decide +kernel) rfl (Nat.le_of_ble_eq_true rfl) fun E hE hW ls hl => ?_
  obtain ⟨Q, hQ⟩ : ∃ Q, Q = yEr E (some (.int (m_o0 (m_first B n)))) := ⟨_, rfl⟩
  rw [← hQ]
  have hl : lv_has ls 2 [(0, .ref (m 0))] := hl
  refine y_iconst (v := 0) hE dX4_firstInService_0 (by decide) ?_
  refine y_istore_n (lv' := [(1, .int 0), (0, .ref (m 0))]) hE dX4_firstInService_1 rfl hl (by decide) rfl (fun ls hl => ?_)
  have K2 : ∀ i : Nat, i ≤ n → ∀ ls : Array Slot, lv_has ls 2 [(1, .int (nI i)), (0, .ref (m 0))] → (y_fst (fun k => decide (m_t B k 3 = 2)) 0 n = y_fst (fun k => decide (m_t B k 3 = 2)) i (n - i)) → yY E (fun _ => False) (e_s E).heap 0 0 Q 2 ls [] := by
    refine y_loop ?_ ?_
    · -- the end of the loop at 2
      intro ls hl hv
      refine y_iload_n hE dX4_firstInService_2 rfl (lv_at hl 0 rfl) ?_
      refine y_aload_n hE dX4_firstInService_3 rfl (lv_at hl 1 rfl) ?_
      refine t_get (v := .ref (m 1)) hE 1 (by decide) q1977 rfl hW rfl dX4_firstInService_4 ?_
      refine y_iconst (v := 0) hE dX4_firstInService_7 (by decide) ?_
      refine t_aldB (j := 0) (v := B 0) hE hW (rfl) (by decide) rfl dX4_firstInService_8 ?_
      refine y_set1 (w := nI n) (hn) ?_
      refine y_icmp_ge (tgt := 30) hE dX4_firstInService_9 (by decide) (fun c9 => ?_) (fun c9 => ?_)
      · -- t 9
        refine y_iconst (v := 0) hE dX4_firstInService_30 (by decide) ?_
        rw [hQ]
        exact y_set1 (w := m_o0 (m_first B n)) (by rw [m_first, hv, y_fst_0]; rfl) (y_iretR hE dX4_firstInService_31)
      · -- f 9
        exact absurd (nI_le (Nat.le_refl _) (by omega)) c9
    · -- a round of the loop at 2
      intro i hi ih2 ls hl hv
      refine y_iload_n hE dX4_firstInService_2 rfl (lv_at hl 0 rfl) ?_
      refine y_aload_n hE dX4_firstInService_3 rfl (lv_at hl 1 rfl) ?_
      refine t_get (v := .ref (m 1)) hE 1 (by decide) q1977 rfl hW rfl dX4_firstInService_4 ?_
      refine y_iconst (v := 0) hE dX4_firstInService_7 (by decide) ?_
      refine t_aldB (j := 0) (v := B 0) hE hW (rfl) (by decide) rfl dX4_firstInService_8 ?_
      refine y_set1 (w := nI n) (hn) ?_
      refine y_icmp_ge (tgt := 30) hE dX4_firstInService_9 (by decide) (fun c9 => ?_) (fun c9 => ?_)
      · -- t 9
        exact absurd c9 (nI_ge hi (by omega))
      · -- f 9
        refine y_aload_n hE dX4_firstInService_12 rfl (lv_at hl 1 rfl) ?_
        refine y_iload_n hE dX4_firstInService_13 rfl (lv_at hl 0 rfl) ?_
        refine y_iconst (v := 3) hE dX4_firstInService_14 (by decide) ?_
        -- call t ['i', '3']
        refine y_roV (rest := []) hE cl_X4_57 (kX4_t i 3 (by omega) (by omega)) dX4_firstInService_15 hl (Nat.le_of_ble_eq_true rfl) (y_recv hE rfl hW.1) rfl rfl (Nat.le_of_ble_eq_true rfl) hW ⟨(Nat.le_of_ble_eq_true rfl), (Nat.le_of_ble_eq_true rfl)⟩ ?_
        refine y_iconst (v := 2) hE dX4_firstInService_18 (by decide) ?_
        refine y_icmp_ne (tgt := 24) hE dX4_firstInService_19 (by decide) (fun c19 => ?_) (fun c19 => ?_)
        · -- t 19
          refine y_iinc (v := nI (i + 1)) (lv' := [(1, .int (nI (i + 1))), (0, .ref (m 0))]) hE dX4_firstInService_24 hl (k := 0) rfl (nI_1 i) (by decide) rfl (fun ls hl => ?_)
          refine y_goto (tgt := 2) hE dX4_firstInService_27 (by decide) ?_
          exact ih2 _ (lv_sub hl [0, 1] rfl) (hv.trans (y_fst_n hi (by simp [c9, c19])))
        · -- f 19
          refine y_iload_n hE dX4_firstInService_22 rfl (lv_at hl 0 rfl) ?_
          rw [hQ]
          exact y_set1 (w := m_o0 (m_first B n)) (by rw [m_first, hv, y_fst_y hi (by simp [c9, c19])]; rfl) (y_iretR hE dX4_firstInService_23)
  exact K2 0 (Nat.zero_le _) _ (lv_sub hl [0, 1] rfl) rfl

set_option maxHeartbeats 1000000 in
theorem kX4_isHour {z : State} {D : yD} (x : Int32) : yR yX4_isHour (ws_ yX4_isHour cX4_isHour 1 (some .boolean)) (rmD 2 0 0) z D [.int x] (fun _ => True) (some (.int (zb (m_in x 0 23)))) := by
  refine yR_of (own := RX4) (by decide +kernel) rfl (Nat.le_of_ble_eq_true rfl) fun E hE hW ls hl => ?_
  obtain ⟨Q, hQ⟩ : ∃ Q, Q = yEr E (some (.int (zb (m_in x 0 23)))) := ⟨_, rfl⟩
  rw [← hQ]
  have hl : lv_has ls 1 [(0, .int x)] := hl
  refine y_iload_n hE dX4_isHour_0 rfl (lv_at hl 0 rfl) ?_
  refine y_iconst (v := 0) hE dX4_isHour_1 (by decide) ?_
  refine y_bipush (v := 23) hE dX4_isHour_2 (by decide) ?_
  -- call in ['x', '0', '23']
  refine y_roS (rest := []) hE cl_X4_53 (kX4_in x 0 23) dX4_isHour_4 hl (Nat.le_of_ble_eq_true rfl) rfl rfl (Nat.le_of_ble_eq_true rfl) trivial ⟨(Nat.le_of_ble_eq_true rfl), (Nat.le_of_ble_eq_true rfl)⟩ ?_
  rw [hQ]
  exact y_set1 (w := zb (m_in x 0 23)) (by first | rfl | (simp [zb]; done) | (simp_all [zb]; done) | grind []) (y_zretR hE (zb_nar _) dX4_isHour_7)

set_option maxHeartbeats 1000000 in
theorem kX4_price {z : State} {D : yD} {m : Nat → Nat} {g B : Nat → Int32} {Bs : Nat → Nat → Int32} {L I C : Nat → Int32} (h : Nat) (hh : h < 24) : yR yX4_price (ws_ yX4_price cX4_price 2 (some .int)) (rmD 1 0 0) z D [.ref (m 0), .int (nI h)] (tW z D m g B Bs L I C) (some (.int (m_price B h))) := by
  refine yR_of (own := RX4) (by decide +kernel) rfl (Nat.le_of_ble_eq_true rfl) fun E hE hW ls hl => ?_
  obtain ⟨Q, hQ⟩ : ∃ Q, Q = yEr E (some (.int (m_price B h))) := ⟨_, rfl⟩
  rw [← hQ]
  have hl : lv_has ls 2 [(0, .ref (m 0)), (1, .int (nI h))] := hl
  refine y_aload_n hE dX4_price_0 rfl (lv_at hl 0 rfl) ?_
  refine t_get (v := .ref (m 1)) hE 1 (by decide) q1977 rfl hW rfl dX4_price_1 ?_
  refine y_bipush (v := 9) hE dX4_price_4 (by decide) ?_
  refine y_iconst (v := 2) hE dX4_price_6 (by decide) ?_
  refine y_iload_n hE dX4_price_7 rfl (lv_at hl 1 rfl) ?_
  refine y_imul hE dX4_price_8 ?_
  refine y_iadd hE dX4_price_9 ?_
  refine t_aldB (j := 9 + 2 * h) (v := B (9 + 2 * h)) hE hW (by show nI 9 + nI 2 * nI h = _; rw [pk_mul, nI_add]) (by omega) rfl dX4_price_10 ?_
  rw [hQ]
  exact y_set1 (w := m_price B h) (by first | rfl | (simp [zb]; done) | (simp_all [zb]; done) | grind []) (y_iretR hE dX4_price_11)

set_option maxHeartbeats 1000000 in
theorem kX4_quantity {z : State} {D : yD} {m : Nat → Nat} {g B : Nat → Int32} {Bs : Nat → Nat → Int32} {L I C : Nat → Int32} (h : Nat) (hh : h < 24) : yR yX4_quantity (ws_ yX4_quantity cX4_quantity 2 (some .int)) (rmD 1 0 0) z D [.ref (m 0), .int (nI h)] (tW z D m g B Bs L I C) (some (.int (m_quan B h))) := by
  refine yR_of (own := RX4) (by decide +kernel) rfl (Nat.le_of_ble_eq_true rfl) fun E hE hW ls hl => ?_
  obtain ⟨Q, hQ⟩ : ∃ Q, Q = yEr E (some (.int (m_quan B h))) := ⟨_, rfl⟩
  rw [← hQ]
  have hl : lv_has ls 2 [(0, .ref (m 0)), (1, .int (nI h))] := hl
  refine y_aload_n hE dX4_quantity_0 rfl (lv_at hl 0 rfl) ?_
  refine t_get (v := .ref (m 1)) hE 1 (by decide) q1977 rfl hW rfl dX4_quantity_1 ?_
  refine y_bipush (v := 9) hE dX4_quantity_4 (by decide) ?_
  refine y_iconst (v := 2) hE dX4_quantity_6 (by decide) ?_
  refine y_iload_n hE dX4_quantity_7 rfl (lv_at hl 1 rfl) ?_
  refine y_imul hE dX4_quantity_8 ?_
  refine y_iadd hE dX4_quantity_9 ?_
  refine y_iconst (v := 1) hE dX4_quantity_10 (by decide) ?_
  refine y_iadd hE dX4_quantity_11 ?_
  refine t_aldB (j := 9 + 2 * h + 1) (v := B (9 + 2 * h + 1)) hE hW (by show nI 9 + nI 2 * nI h + nI 1 = _; rw [pk_mul, nI_add, nI_add]) (by omega) rfl dX4_quantity_12 ?_
  rw [hQ]
  exact y_set1 (w := m_quan B h) (by first | rfl | (simp [zb]; done) | (simp_all [zb]; done) | grind []) (y_iretR hE dX4_quantity_13)

set_option maxHeartbeats 1000000 in
theorem kX4_bids {z : State} {D : yD} {m : Nat → Nat} {g B : Nat → Int32} {Bs : Nat → Nat → Int32} {L I C : Nat → Int32}  : yR yX4_bids (ws_ yX4_bids cX4_bids 3 (some .int)) (rmD 2 0 0) z D [.ref (m 0)] (tW z D m g B Bs L I C) (some (.int (m_bids B))) := by
  refine yR_of (own := RX4) (by decide +kernel) rfl (Nat.le_of_ble_eq_true rfl) fun E hE hW ls hl => ?_
  obtain ⟨Q, hQ⟩ : ∃ Q, Q = yEr E (some (.int (m_bids B))) := ⟨_, rfl⟩
  rw [← hQ]
  have hl : lv_has ls 3 [(0, .ref (m 0))] := hl
  refine y_iconst (v := 0) hE dX4_bids_0 (by decide) ?_
  refine y_istore_n (lv' := [(1, .int 0), (0, .ref (m 0))]) hE dX4_bids_1 rfl hl (by decide) rfl (fun ls hl => ?_)
  refine y_iconst (v := 0) hE dX4_bids_2 (by decide) ?_
  refine y_istore_n (lv' := [(2, .int 0), (1, .int 0), (0, .ref (m 0))]) hE dX4_bids_3 rfl hl (by decide) rfl (fun ls hl => ?_)
  have K4 : ∀ i : Nat, i ≤ 24 → ∀ ls : Array Slot, lv_has ls 3 [(2, .int (nI i)), (1, .int (y_sum (fun h => if 0 < m_price B h then 1 else 0) i)), (0, .ref (m 0))] → yY E (fun _ => False) (e_s E).heap 0 0 Q 4 ls [] := by
    refine y_loop ?_ ?_
    · -- the end of the loop at 4
      intro ls hl 
      refine y_iload_n hE dX4_bids_4 rfl (lv_at hl 0 rfl) ?_
      refine y_bipush (v := 24) hE dX4_bids_5 (by decide) ?_
      refine y_set1 (w := nI 24) (rfl) ?_
      refine y_icmp_ge (tgt := 32) hE dX4_bids_7 (by decide) (fun c7 => ?_) (fun c7 => ?_)
      · -- t 7
        refine y_iload_n hE dX4_bids_32 rfl (lv_at hl 1 rfl) ?_
        rw [hQ]
        exact y_set1 (w := m_bids B) rfl (y_iretR hE dX4_bids_33)
      · -- f 7
        exact absurd (nI_le (Nat.le_refl _) (by omega)) c7
    · -- a round of the loop at 4
      intro i hi ih4 ls hl 
      refine y_iload_n hE dX4_bids_4 rfl (lv_at hl 0 rfl) ?_
      refine y_bipush (v := 24) hE dX4_bids_5 (by decide) ?_
      refine y_set1 (w := nI 24) (rfl) ?_
      refine y_icmp_ge (tgt := 32) hE dX4_bids_7 (by decide) (fun c7 => ?_) (fun c7 => ?_)
      · -- t 7
        exact absurd c7 (nI_ge hi (by omega))
      · -- f 7
        refine y_iload_n hE dX4_bids_10 rfl (lv_at hl 1 rfl) ?_
        refine y_aload_n hE dX4_bids_11 rfl (lv_at hl 2 rfl) ?_
        refine y_iload_n hE dX4_bids_12 rfl (lv_at hl 0 rfl) ?_
        -- call price ['i']
        refine y_roV (rest := [.int (y_sum (fun h => if 0 < m_price B h then 1 else 0) i)]) hE cl_X4_147 (kX4_price i (by omega)) dX4_bids_13 hl (Nat.le_of_ble_eq_true rfl) (y_recv hE rfl hW.1) rfl rfl (Nat.le_of_ble_eq_true rfl) hW ⟨(Nat.le_of_ble_eq_true rfl), (Nat.le_of_ble_eq_true rfl)⟩ ?_
        have K24 : ∀ ls : Array Slot, lv_has ls 3 [(2, .int (nI i)), (1, .int (y_sum (fun h => if 0 < m_price B h then 1 else 0) i)), (0, .ref (m 0))] → yY E (fun _ => False) (e_s E).heap 0 0 Q 24 ls [.int (if 0 < m_price B i then 1 else 0), .int (y_sum (fun h => if 0 < m_price B h then 1 else 0) i)] := by
          intro ls hl
          refine y_iadd hE dX4_bids_24 ?_
          refine y_istore_n (lv' := [(1, .int ((y_sum (fun h => if 0 < m_price B h then 1 else 0) i) + (if 0 < m_price B i then 1 else 0))), (2, .int (nI i)), (0, .ref (m 0))]) hE dX4_bids_25 rfl hl (by decide) rfl (fun ls hl => ?_)
          refine y_iinc (v := nI (i + 1)) (lv' := [(2, .int (nI (i + 1))), (1, .int ((y_sum (fun h => if 0 < m_price B h then 1 else 0) i) + (if 0 < m_price B i then 1 else 0))), (0, .ref (m 0))]) hE dX4_bids_26 hl (k := 1) rfl (nI_1 i) (by decide) rfl (fun ls hl => ?_)
          refine y_goto (tgt := 4) hE dX4_bids_29 (by decide) ?_
          exact ih4 _ (lv_sub hl [0, 1, 2] rfl)
        refine y_if_le (tgt := 23) hE dX4_bids_16 (by decide) (fun c16 => ?_) (fun c16 => ?_)
        · -- t 16
          refine y_iconst (v := 0) hE dX4_bids_23 (by decide) ?_
          exact y_set1 ((by first | rfl | (simp_all; done) | grind)) (K24 _ hl)
        · -- f 16
          refine y_iconst (v := 1) hE dX4_bids_19 (by decide) ?_
          refine y_goto (tgt := 24) hE dX4_bids_20 (by decide) ?_
          exact y_set1 ((by first | rfl | (simp_all; done) | grind)) (K24 _ hl)
  exact K4 0 (Nat.zero_le _) _ (lv_sub hl [0, 1, 2] rfl)

set_option maxHeartbeats 1000000 in
theorem kX4_isFine {z : State} {D : yD} {m : Nat → Nat} {g B : Nat → Int32} {Bs : Nat → Nat → Int32} {L I C : Nat → Int32} (b : Bool) : yM yX4_isFine (ws_ yX4_isFine cX4_isFine 2 (some .boolean)) (rmD 1 0 0) z D [.ref (m 0), .int (zb b)] (tW z D m g B Bs L I C) eI (fun vr H => vr = zb b ∧ tW z D m (upd g 0 (zb (!b))) B Bs L I C H) 0 0 (tA m) := by
  refine yM_of (own := RX4) (by decide +kernel) rfl (Nat.le_of_ble_eq_true rfl) (fun H h => h.az) fun E hE hW ls hl hin => ?_
  obtain ⟨Q, hQ⟩ : ∃ Q, Q = yEm E eI (fun vr H => vr = zb b ∧ tW z D m (upd g 0 (zb (!b))) B Bs L I C H) 0 0 (tA m) := ⟨_, rfl⟩
  rw [← hQ]
  generalize (e_s E).heap = H at hW ⊢
  have hl : lv_has ls 2 [(0, .ref (m 0)), (1, .int (zb b))] := hl
  refine y_aload_n hE dX4_isFine_0 rfl (lv_at hl 0 rfl) ?_
  refine y_iload_n hE dX4_isFine_1 rfl (lv_at hl 1 rfl) ?_
  refine y_if_eq (tgt := 9) hE dX4_isFine_2 (by decide) (fun c2 => ?_) (fun c2 => ?_)
  · -- t 2
    rw [zb_0] at c2
    refine y_iconst (v := 1) hE dX4_isFine_9 (by decide) ?_
    refine t_put (g' := upd g 0 1) hE hW 0 (by decide) q1976 rfl rfl rfl rfl rfl dX4_isFine_10 (fun H hW => ?_)
    refine y_iload_n hE dX4_isFine_13 rfl (lv_at hl 1 rfl) ?_
    rw [hQ]
    exact y_set1 (w := zb b) (by first | rfl | (simp [c2, zb]; done) | (simp_all [zb]; done) | grind []) (y_zret hE (zb_nar _) dX4_isFine_14 ⟨rfl, hW.cast (by first | rfl | (simp [c2, zb]; done) | (simp_all [zb]; done) | grind []) rfl rfl rfl rfl rfl⟩ (Nat.le_of_ble_eq_true rfl) (Nat.le_of_ble_eq_true rfl))
  · -- f 2
    rw [zb_1] at c2
    refine y_iconst (v := 0) hE dX4_isFine_5 (by decide) ?_
    refine y_goto (tgt := 10) hE dX4_isFine_6 (by decide) ?_
    refine t_put (g' := upd g 0 0) hE hW 0 (by decide) q1976 rfl rfl rfl rfl rfl dX4_isFine_10 (fun H hW => ?_)
    refine y_iload_n hE dX4_isFine_13 rfl (lv_at hl 1 rfl) ?_
    rw [hQ]
    exact y_set1 (w := zb b) (by first | rfl | (simp [c2, zb]; done) | (simp_all [zb]; done) | grind []) (y_zret hE (zb_nar _) dX4_isFine_14 ⟨rfl, hW.cast (by first | rfl | (simp [c2, zb]; done) | (simp_all [zb]; done) | grind []) rfl rfl rfl rfl rfl⟩ (Nat.le_of_ble_eq_true rfl) (Nat.le_of_ble_eq_true rfl))

set_option maxHeartbeats 1000000 in
theorem kX4_rejects {z : State} {D : yD} {m : Nat → Nat} {g B : Nat → Int32} {Bs : Nat → Nat → Int32} {L I C : Nat → Int32} (b : Bool) (w : Int32) (d : Int32) : yM yX4_rejects (ws_ yX4_rejects cX4_rejects 4 (some .boolean)) (rmD 1 0 0) z D [.ref (m 0), .int (zb b), .int w, .int d] (tW z D m g B Bs L I C) eI (fun vr H => vr = zb b ∧ tW z D m (m_rej b g w d) B Bs L I C H) 0 0 (tA m) := by
  refine yM_of (own := RX4) (by decide +kernel) rfl (Nat.le_of_ble_eq_true rfl) (fun H h => h.az) fun E hE hW ls hl hin => ?_
  obtain ⟨Q, hQ⟩ : ∃ Q, Q = yEm E eI (fun vr H => vr = zb b ∧ tW z D m (m_rej b g w d) B Bs L I C H) 0 0 (tA m) := ⟨_, rfl⟩
  rw [← hQ]
  generalize (e_s E).heap = H at hW ⊢
  have hl : lv_has ls 4 [(0, .ref (m 0)), (1, .int (zb b)), (2, .int w), (3, .int d)] := hl
  refine y_iload_n hE dX4_rejects_0 rfl (lv_at hl 1 rfl) ?_
  refine y_if_eq (tgt := 19) hE dX4_rejects_1 (by decide) (fun c1 => ?_) (fun c1 => ?_)
  · -- t 1
    rw [zb_0] at c1
    refine y_iload_n hE dX4_rejects_19 rfl (lv_at hl 1 rfl) ?_
    rw [hQ]
    exact y_set1 (w := zb b) (by first | rfl | (simp [m_rej, rej, c1, zb]; done) | (simp_all [m_rej, rej, zb]; done) | grind [m_rej, rej]) (y_zret hE (zb_nar _) dX4_rejects_20 ⟨rfl, hW.cast (by first | rfl | (simp [m_rej, rej, c1, zb]; done) | (simp_all [m_rej, rej, zb]; done) | grind [m_rej, rej]) rfl rfl rfl rfl rfl⟩ (Nat.le_of_ble_eq_true rfl) (Nat.le_of_ble_eq_true rfl))
  · -- f 1
    rw [zb_1] at c1
    refine y_aload_n hE dX4_rejects_4 rfl (lv_at hl 0 rfl) ?_
    refine y_iload_n hE dX4_rejects_5 rfl (lv_at hl 2 rfl) ?_
    refine t_put (g' := upd g 5 w) hE hW 5 (by decide) q1981 rfl rfl rfl rfl rfl dX4_rejects_6 (fun H hW => ?_)
    refine y_aload_n hE dX4_rejects_9 rfl (lv_at hl 0 rfl) ?_
    refine y_iload_n hE dX4_rejects_10 rfl (lv_at hl 3 rfl) ?_
    refine t_put (g' := upd (upd g 5 w) 6 d) hE hW 6 (by decide) q1982 rfl rfl rfl rfl rfl dX4_rejects_11 (fun H hW => ?_)
    refine y_aload_n hE dX4_rejects_14 rfl (lv_at hl 0 rfl) ?_
    refine y_iconst (v := 0) hE dX4_rejects_15 (by decide) ?_
    refine t_put (g' := upd (upd (upd g 5 w) 6 d) 7 0) hE hW 7 (by decide) q1983 rfl rfl rfl rfl rfl dX4_rejects_16 (fun H hW => ?_)
    refine y_iload_n hE dX4_rejects_19 rfl (lv_at hl 1 rfl) ?_
    rw [hQ]
    exact y_set1 (w := zb b) (by first | rfl | (simp [m_rej, rej, c1, zb]; done) | (simp_all [m_rej, rej, zb]; done) | grind [m_rej, rej]) (y_zret hE (zb_nar _) dX4_rejects_20 ⟨rfl, hW.cast (by first | rfl | (simp [m_rej, rej, c1, zb]; done) | (simp_all [m_rej, rej, zb]; done) | grind [m_rej, rej]) rfl rfl rfl rfl rfl⟩ (Nat.le_of_ble_eq_true rfl) (Nat.le_of_ble_eq_true rfl))

set_option maxHeartbeats 1000000 in
theorem kX4_copies_0j {z : State} {D : yD} {m : Nat → Nat} {g B : Nat → Int32} {Bs : Nat → Nat → Int32} {L I C : Nat → Int32} (j : Nat) (hj : 0 < j) (hj2 : j < 12) : yM yX4_copies (ws_ yX4_copies cX4_copies 4 none) (rmD 1 0 0) z D [.ref (m 0), .int 0, .int (nI j)] (tW z D m g B Bs L I C) eV (fun _ H => tW z D m g B (sRow Bs j B) L I C H) 0 0 (tA m) := by
  refine yM_of (own := RX4) (by decide +kernel) rfl (Nat.le_of_ble_eq_true rfl) (fun H h => h.az) fun E hE hW ls hl hin => ?_
  obtain ⟨Q, hQ⟩ : ∃ Q, Q = yEm E eV (fun _ H => tW z D m g B (sRow Bs j B) L I C H) 0 0 (tA m) := ⟨_, rfl⟩
  rw [← hQ]
  generalize (e_s E).heap = H at hW ⊢
  have hl : lv_has ls 4 [(0, .ref (m 0)), (1, .int 0), (2, .int (nI j))] := hl
  refine y_iconst (v := 0) hE dX4_copies_0 (by decide) ?_
  refine y_istore_n (lv' := [(3, .int 0), (0, .ref (m 0)), (1, .int 0), (2, .int (nI j))]) hE dX4_copies_1 rfl hl (by decide) rfl (fun ls hl => ?_)
  have K2 : ∀ k : Nat, k ≤ 129 → ∀ (H : Heap) (ls : Array Slot), lv_has ls 4 [(3, .int (nI k)), (0, .ref (m 0)), (1, .int 0), (2, .int (nI j))] → tW z D m g B (cpR Bs j B k) L I C H → yY E (tA m) H 0 0 Q 2 ls [] := by
    refine y_loop ?_ ?_
    · -- the end of the loop at 2
      intro H ls hl hW 
      refine y_iload_n hE dX4_copies_2 rfl (lv_at hl 0 rfl) ?_
      refine y_sipush (v := 129) hE dX4_copies_3 (by decide) ?_
      refine y_set1 (w := nI 129) (rfl) ?_
      refine y_icmp_ge (tgt := 39) hE dX4_copies_6 (by decide) (fun c6 => ?_) (fun c6 => ?_)
      · -- t 6
        rw [hQ]
        exact y_vret hE dX4_copies_39 ((hW.rows (fun _ _ => rfl) (fun b q _ _ hq => cpR_e _ _ _ _ _ hq))) (Nat.le_of_ble_eq_true rfl) (Nat.le_of_ble_eq_true rfl)
      · -- f 6
        exact absurd (nI_le (Nat.le_refl _) (by omega)) c6
    · -- a round of the loop at 2
      intro k hk ih2 H ls hl hW 
      refine y_iload_n hE dX4_copies_2 rfl (lv_at hl 0 rfl) ?_
      refine y_sipush (v := 129) hE dX4_copies_3 (by decide) ?_
      refine y_set1 (w := nI 129) (rfl) ?_
      refine y_icmp_ge (tgt := 39) hE dX4_copies_6 (by decide) (fun c6 => ?_) (fun c6 => ?_)
      · -- t 6
        exact absurd c6 (nI_ge hk (by omega))
      · -- f 6
        refine y_aload_n hE dX4_copies_9 rfl (lv_at hl 1 rfl) ?_
        refine t_get (v := .ref (m 1)) hE 1 (by decide) q1977 rfl hW rfl dX4_copies_10 ?_
        refine y_sipush (v := 129) hE dX4_copies_13 (by decide) ?_
        refine y_iload_n hE dX4_copies_16 rfl (lv_at hl 3 rfl) ?_
        refine y_imul hE dX4_copies_17 ?_
        refine y_iload_n hE dX4_copies_18 rfl (lv_at hl 0 rfl) ?_
        refine y_iadd hE dX4_copies_19 ?_
        refine y_aload_n hE dX4_copies_20 rfl (lv_at hl 1 rfl) ?_
        refine t_get (v := .ref (m 1)) hE 1 (by decide) q1977 rfl hW rfl dX4_copies_21 ?_
        refine y_sipush (v := 129) hE dX4_copies_24 (by decide) ?_
        refine y_iload_n hE dX4_copies_27 rfl (lv_at hl 2 rfl) ?_
        refine y_imul hE dX4_copies_28 ?_
        refine y_iload_n hE dX4_copies_29 rfl (lv_at hl 0 rfl) ?_
        refine y_iadd hE dX4_copies_30 ?_
        refine t_aldB (j := k) (v := B k) hE hW ((by show nI 129 * nI 0 + nI k = _; rw [pk_mul, nI_add]; simp)) (by omega) rfl dX4_copies_31 ?_
        refine t_astH (b := j) (k := k) hE hW (by show nI 129 * nI j + nI k = _; rw [pk_mul, nI_add]) (by omega) (by omega) (by omega) dX4_copies_32 (fun H hW => ?_)
        refine y_iinc (v := nI (k + 1)) (lv' := [(3, .int (nI (k + 1))), (0, .ref (m 0)), (1, .int 0), (2, .int (nI j))]) hE dX4_copies_33 hl (k := 0) rfl (nI_1 k) (by decide) rfl (fun ls hl => ?_)
        refine y_goto (tgt := 2) hE dX4_copies_36 (by decide) ?_
        exact ih2 _ _ (lv_sub hl [0, 1, 2, 3] rfl) (hW.cast rfl rfl (cpR_s _ _ _ _) rfl rfl rfl)
  exact K2 0 (Nat.zero_le _) _ _ (lv_sub hl [0, 1, 2, 3] rfl) (hW.cast rfl rfl (cpR_0 _ _ _).symm rfl rfl rfl)

set_option maxHeartbeats 1000000 in
theorem kX4_copies_j0 {z : State} {D : yD} {m : Nat → Nat} {g B : Nat → Int32} {Bs : Nat → Nat → Int32} {L I C : Nat → Int32} (j : Nat) (hj : 0 < j) (hj2 : j < 12) : yM yX4_copies (ws_ yX4_copies cX4_copies 4 none) (rmD 1 0 0) z D [.ref (m 0), .int (nI j), .int 0] (tW z D m g B Bs L I C) eV (fun _ H => tW z D m g (Bs j) Bs L I C H) 0 0 (tA m) := by
  refine yM_of (own := RX4) (by decide +kernel) rfl (Nat.le_of_ble_eq_true rfl) (fun H h => h.az) fun E hE hW ls hl hin => ?_
  obtain ⟨Q, hQ⟩ : ∃ Q, Q = yEm E eV (fun _ H => tW z D m g (Bs j) Bs L I C H) 0 0 (tA m) := ⟨_, rfl⟩
  rw [← hQ]
  generalize (e_s E).heap = H at hW ⊢
  have hl : lv_has ls 4 [(0, .ref (m 0)), (1, .int (nI j)), (2, .int 0)] := hl
  refine y_iconst (v := 0) hE dX4_copies_0 (by decide) ?_
  refine y_istore_n (lv' := [(3, .int 0), (0, .ref (m 0)), (1, .int (nI j)), (2, .int 0)]) hE dX4_copies_1 rfl hl (by decide) rfl (fun ls hl => ?_)
  have K2 : ∀ k : Nat, k ≤ 129 → ∀ (H : Heap) (ls : Array Slot), lv_has ls 4 [(3, .int (nI k)), (0, .ref (m 0)), (1, .int (nI j)), (2, .int 0)] → tW z D m g (cpB B (Bs j) k) Bs L I C H → yY E (tA m) H 0 0 Q 2 ls [] := by
    refine y_loop ?_ ?_
    · -- the end of the loop at 2
      intro H ls hl hW 
      refine y_iload_n hE dX4_copies_2 rfl (lv_at hl 0 rfl) ?_
      refine y_sipush (v := 129) hE dX4_copies_3 (by decide) ?_
      refine y_set1 (w := nI 129) (rfl) ?_
      refine y_icmp_ge (tgt := 39) hE dX4_copies_6 (by decide) (fun c6 => ?_) (fun c6 => ?_)
      · -- t 6
        rw [hQ]
        exact y_vret hE dX4_copies_39 ((hW.rows (fun q hq => cpB_e _ _ _ hq) (fun _ _ _ _ _ => rfl))) (Nat.le_of_ble_eq_true rfl) (Nat.le_of_ble_eq_true rfl)
      · -- f 6
        exact absurd (nI_le (Nat.le_refl _) (by omega)) c6
    · -- a round of the loop at 2
      intro k hk ih2 H ls hl hW 
      refine y_iload_n hE dX4_copies_2 rfl (lv_at hl 0 rfl) ?_
      refine y_sipush (v := 129) hE dX4_copies_3 (by decide) ?_
      refine y_set1 (w := nI 129) (rfl) ?_
      refine y_icmp_ge (tgt := 39) hE dX4_copies_6 (by decide) (fun c6 => ?_) (fun c6 => ?_)
      · -- t 6
        exact absurd c6 (nI_ge hk (by omega))
      · -- f 6
        refine y_aload_n hE dX4_copies_9 rfl (lv_at hl 1 rfl) ?_
        refine t_get (v := .ref (m 1)) hE 1 (by decide) q1977 rfl hW rfl dX4_copies_10 ?_
        refine y_sipush (v := 129) hE dX4_copies_13 (by decide) ?_
        refine y_iload_n hE dX4_copies_16 rfl (lv_at hl 3 rfl) ?_
        refine y_imul hE dX4_copies_17 ?_
        refine y_iload_n hE dX4_copies_18 rfl (lv_at hl 0 rfl) ?_
        refine y_iadd hE dX4_copies_19 ?_
        refine y_aload_n hE dX4_copies_20 rfl (lv_at hl 1 rfl) ?_
        refine t_get (v := .ref (m 1)) hE 1 (by decide) q1977 rfl hW rfl dX4_copies_21 ?_
        refine y_sipush (v := 129) hE dX4_copies_24 (by decide) ?_
        refine y_iload_n hE dX4_copies_27 rfl (lv_at hl 2 rfl) ?_
        refine y_imul hE dX4_copies_28 ?_
        refine y_iload_n hE dX4_copies_29 rfl (lv_at hl 0 rfl) ?_
        refine y_iadd hE dX4_copies_30 ?_
        refine t_aldH (b := j) (k := k) hE hW (by show nI 129 * nI j + nI k = _; rw [pk_mul, nI_add]) (by omega) (by omega) (by omega) dX4_copies_31 ?_
        refine t_astB (j := k) hE hW ((by show nI 129 * nI 0 + nI k = _; rw [pk_mul, nI_add]; simp)) (by omega) dX4_copies_32 (fun H hW => ?_)
        refine y_iinc (v := nI (k + 1)) (lv' := [(3, .int (nI (k + 1))), (0, .ref (m 0)), (1, .int (nI j)), (2, .int 0)]) hE dX4_copies_33 hl (k := 0) rfl (nI_1 k) (by decide) rfl (fun ls hl => ?_)
        refine y_goto (tgt := 2) hE dX4_copies_36 (by decide) ?_
        exact ih2 _ _ (lv_sub hl [0, 1, 2, 3] rfl) (hW.cast rfl (cpB_s _ _ _) rfl rfl rfl rfl)
  exact K2 0 (Nat.zero_le _) _ _ (lv_sub hl [0, 1, 2, 3] rfl) (hW.cast rfl (cpB_0 _ _).symm rfl rfl rfl rfl)

set_option maxHeartbeats 1000000 in
theorem kX4_copies_ij {z : State} {D : yD} {m : Nat → Nat} {g B : Nat → Int32} {Bs : Nat → Nat → Int32} {L I C : Nat → Int32} (i : Nat) (j : Nat) (hi : 0 < i) (hi2 : i < 12) (hj : 0 < j) (hj2 : j < 12) (hij : i ≠ j) : yM yX4_copies (ws_ yX4_copies cX4_copies 4 none) (rmD 1 0 0) z D [.ref (m 0), .int (nI i), .int (nI j)] (tW z D m g B Bs L I C) eV (fun _ H => tW z D m g B (sRow Bs j (Bs i)) L I C H) 0 0 (tA m) := by
  refine yM_of (own := RX4) (by decide +kernel) rfl (Nat.le_of_ble_eq_true rfl) (fun H h => h.az) fun E hE hW ls hl hin => ?_
  obtain ⟨Q, hQ⟩ : ∃ Q, Q = yEm E eV (fun _ H => tW z D m g B (sRow Bs j (Bs i)) L I C H) 0 0 (tA m) := ⟨_, rfl⟩
  rw [← hQ]
  generalize (e_s E).heap = H at hW ⊢
  have hl : lv_has ls 4 [(0, .ref (m 0)), (1, .int (nI i)), (2, .int (nI j))] := hl
  refine y_iconst (v := 0) hE dX4_copies_0 (by decide) ?_
  refine y_istore_n (lv' := [(3, .int 0), (0, .ref (m 0)), (1, .int (nI i)), (2, .int (nI j))]) hE dX4_copies_1 rfl hl (by decide) rfl (fun ls hl => ?_)
  have K2 : ∀ k : Nat, k ≤ 129 → ∀ (H : Heap) (ls : Array Slot), lv_has ls 4 [(3, .int (nI k)), (0, .ref (m 0)), (1, .int (nI i)), (2, .int (nI j))] → tW z D m g B (cpR Bs j (Bs i) k) L I C H → yY E (tA m) H 0 0 Q 2 ls [] := by
    refine y_loop ?_ ?_
    · -- the end of the loop at 2
      intro H ls hl hW 
      refine y_iload_n hE dX4_copies_2 rfl (lv_at hl 0 rfl) ?_
      refine y_sipush (v := 129) hE dX4_copies_3 (by decide) ?_
      refine y_set1 (w := nI 129) (rfl) ?_
      refine y_icmp_ge (tgt := 39) hE dX4_copies_6 (by decide) (fun c6 => ?_) (fun c6 => ?_)
      · -- t 6
        rw [hQ]
        exact y_vret hE dX4_copies_39 ((hW.rows (fun _ _ => rfl) (fun b q _ _ hq => cpR_e _ _ _ _ _ hq))) (Nat.le_of_ble_eq_true rfl) (Nat.le_of_ble_eq_true rfl)
      · -- f 6
        exact absurd (nI_le (Nat.le_refl _) (by omega)) c6
    · -- a round of the loop at 2
      intro k hk ih2 H ls hl hW 
      refine y_iload_n hE dX4_copies_2 rfl (lv_at hl 0 rfl) ?_
      refine y_sipush (v := 129) hE dX4_copies_3 (by decide) ?_
      refine y_set1 (w := nI 129) (rfl) ?_
      refine y_icmp_ge (tgt := 39) hE dX4_copies_6 (by decide) (fun c6 => ?_) (fun c6 => ?_)
      · -- t 6
        exact absurd c6 (nI_ge hk (by omega))
      · -- f 6
        refine y_aload_n hE dX4_copies_9 rfl (lv_at hl 1 rfl) ?_
        refine t_get (v := .ref (m 1)) hE 1 (by decide) q1977 rfl hW rfl dX4_copies_10 ?_
        refine y_sipush (v := 129) hE dX4_copies_13 (by decide) ?_
        refine y_iload_n hE dX4_copies_16 rfl (lv_at hl 3 rfl) ?_
        refine y_imul hE dX4_copies_17 ?_
        refine y_iload_n hE dX4_copies_18 rfl (lv_at hl 0 rfl) ?_
        refine y_iadd hE dX4_copies_19 ?_
        refine y_aload_n hE dX4_copies_20 rfl (lv_at hl 1 rfl) ?_
        refine t_get (v := .ref (m 1)) hE 1 (by decide) q1977 rfl hW rfl dX4_copies_21 ?_
        refine y_sipush (v := 129) hE dX4_copies_24 (by decide) ?_
        refine y_iload_n hE dX4_copies_27 rfl (lv_at hl 2 rfl) ?_
        refine y_imul hE dX4_copies_28 ?_
        refine y_iload_n hE dX4_copies_29 rfl (lv_at hl 0 rfl) ?_
        refine y_iadd hE dX4_copies_30 ?_
        refine t_aldH (b := i) (k := k) hE hW (by show nI 129 * nI i + nI k = _; rw [pk_mul, nI_add]) (by omega) (by omega) (by omega) dX4_copies_31 ?_
        refine t_astH (b := j) (k := k) hE hW (by show nI 129 * nI j + nI k = _; rw [pk_mul, nI_add]) (by omega) (by omega) (by omega) dX4_copies_32 (fun H hW => ?_)
        refine y_iinc (v := nI (k + 1)) (lv' := [(3, .int (nI (k + 1))), (0, .ref (m 0)), (1, .int (nI i)), (2, .int (nI j))]) hE dX4_copies_33 hl (k := 0) rfl (nI_1 k) (by decide) rfl (fun ls hl => ?_)
        refine y_goto (tgt := 2) hE dX4_copies_36 (by decide) ?_
        exact ih2 _ _ (lv_sub hl [0, 1, 2, 3] rfl) (hW.cast rfl rfl (cpR_s2 _ _ _ _ hij) rfl rfl rfl)
  exact K2 0 (Nat.zero_le _) _ _ (lv_sub hl [0, 1, 2, 3] rfl) (hW.cast rfl rfl (cpR_0 _ _ _).symm rfl rfl rfl)

set_option maxHeartbeats 1000000 in
theorem kX4_begins {z : State} {D : yD} {m : Nat → Nat} {g B : Nat → Int32} {Bs : Nat → Nat → Int32} {L I C : Nat → Int32}  : yM yX4_begins (ws_ yX4_begins cX4_begins 1 none) (rmD 2 0 0) z D [.ref (m 0)] (tW z D m g B Bs L I C) eV (fun _ H => tW z D m g B (sRow Bs 10 B) L I C H) 0 0 (tA m) := by
  refine yM_of (own := RX4) (by decide +kernel) rfl (Nat.le_of_ble_eq_true rfl) (fun H h => h.az) fun E hE hW ls hl hin => ?_
  obtain ⟨Q, hQ⟩ : ∃ Q, Q = yEm E eV (fun _ H => tW z D m g B (sRow Bs 10 B) L I C H) 0 0 (tA m) := ⟨_, rfl⟩
  rw [← hQ]
  generalize (e_s E).heap = H at hW ⊢
  have hl : lv_has ls 1 [(0, .ref (m 0))] := hl
  refine y_aload_n hE dX4_begins_0 rfl (lv_at hl 0 rfl) ?_
  refine y_iconst (v := 0) hE dX4_begins_1 (by decide) ?_
  refine y_bipush (v := 10) hE dX4_begins_2 (by decide) ?_
  -- call copies ['0', '10']
  refine y_muV (rest := []) hE cl_X4_30 (kX4_copies_0j 10 (by omega) (by omega)) dX4_begins_4 hl (Nat.le_of_ble_eq_true rfl) (y_recv hE rfl hW.1) rfl rfl (Nat.le_of_ble_eq_true rfl) hW (fun _ h => h) ⟨(Nat.le_of_ble_eq_true rfl), (Nat.le_of_ble_eq_true rfl)⟩ (fun vr H hW _ _ => ?_)
  have hW : tW z D m g B (sRow Bs 10 B) L I C H := hW
  refine y_st (st' := []) rfl ?_
  rw [hQ]
  exact y_vret hE dX4_begins_7 (hW.cast rfl rfl rfl rfl rfl rfl) (Nat.le_of_ble_eq_true rfl) (Nat.le_of_ble_eq_true rfl)

set_option maxHeartbeats 1000000 in
theorem kX4_ends {z : State} {D : yD} {m : Nat → Nat} {g B : Nat → Int32} {Bs : Nat → Nat → Int32} {L I C : Nat → Int32} (c : Nat) (by_ : Int32) (a : Int32) (b : Int32) (r : Int32) (hc : g 2 = nI c) (hC : c ≤ 8) : yM yX4_ends (ws_ yX4_ends cX4_ends 6 (some .int)) (rmD 2 0 0) z D [.ref (m 0), .int by_, .int a, .int b, .int r] (tW z D m g B Bs L I C) eI (fun vr H => vr = e_r g (tThr by_ a b r) ∧ tW z D m (e_g g (tThr by_ a b r) c) (e_B B Bs (tThr by_ a b r)) (e_Bs Bs (tThr by_ a b r) c) L I C H) 0 0 (tA m) := by
  refine yM_of (own := RX4) (by decide +kernel) rfl (Nat.le_of_ble_eq_true rfl) (fun H h => h.az) fun E hE hW ls hl hin => ?_
  obtain ⟨Q, hQ⟩ : ∃ Q, Q = yEm E eI (fun vr H => vr = e_r g (tThr by_ a b r) ∧ tW z D m (e_g g (tThr by_ a b r) c) (e_B B Bs (tThr by_ a b r)) (e_Bs Bs (tThr by_ a b r) c) L I C H) 0 0 (tA m) := ⟨_, rfl⟩
  rw [← hQ]
  generalize (e_s E).heap = H at hW ⊢
  have hl : lv_has ls 6 [(0, .ref (m 0)), (1, .int by_), (2, .int a), (3, .int b), (4, .int r)] := hl
  refine y_aload_n hE dX4_ends_0 rfl (lv_at hl 0 rfl) ?_
  refine y_iload_n hE dX4_ends_1 rfl (lv_at hl 1 rfl) ?_
  refine y_iconst (v := 1) hE dX4_ends_2 (by decide) ?_
  have K30 : ∀ ls : Array Slot, lv_has ls 6 [(0, .ref (m 0)), (1, .int by_), (2, .int a), (3, .int b), (4, .int r)] → yY E (tA m) H 0 0 Q 30 ls [.int (tThr by_ a b r), .ref (m 0)] := by
    intro ls hl
    refine t_put (g' := upd g 0 (tThr by_ a b r)) hE hW 0 (by decide) q1976 rfl rfl rfl rfl rfl dX4_ends_30 (fun H hW => ?_)
    refine y_aload_n hE dX4_ends_33 rfl (lv_at hl 0 rfl) ?_
    refine t_get (v := .int (tThr by_ a b r)) hE 0 (by decide) q1976 rfl hW rfl dX4_ends_34 ?_
    refine y_if_eq (tgt := 49) hE dX4_ends_37 (by decide) (fun c37 => ?_) (fun c37 => ?_)
    · -- t 37
      refine y_aload_n hE dX4_ends_49 rfl (lv_at hl 0 rfl) ?_
      refine t_get (v := .int (g 2)) hE 2 (by decide) q1978 rfl hW rfl dX4_ends_50 ?_
      refine y_set1 (w := nI c) (hc) ?_
      refine y_bipush (v := 8) hE dX4_ends_53 (by decide) ?_
      refine y_icmp_ne (tgt := 94) hE dX4_ends_55 (by decide) (fun c55 => ?_) (fun c55 => ?_)
      · -- t 55
        refine y_aload_n hE dX4_ends_94 rfl (lv_at hl 0 rfl) ?_
        refine y_dup hE dX4_ends_95 rfl ?_
        refine t_get (v := .int (g 2)) hE 2 (by decide) q1978 rfl hW rfl dX4_ends_96 ?_
        refine y_iconst (v := 1) hE dX4_ends_99 (by decide) ?_
        refine y_iadd hE dX4_ends_100 ?_
        refine y_set1 (w := nI (c + 1)) (by rw [hc]; exact nI_1 c) ?_
        refine t_put (g' := upd (upd g 0 (tThr by_ a b r)) 2 (nI (c + 1))) hE hW 2 (by decide) q1978 rfl rfl rfl rfl rfl dX4_ends_101 (fun H hW => ?_)
        refine y_aload_n hE dX4_ends_104 rfl (lv_at hl 0 rfl) ?_
        refine y_bipush (v := 10) hE dX4_ends_105 (by decide) ?_
        refine y_aload_n hE dX4_ends_107 rfl (lv_at hl 0 rfl) ?_
        refine t_get (v := .int (nI (c + 1))) hE 2 (by decide) q1978 rfl hW rfl dX4_ends_108 ?_
        -- call copies ['10', '(c + 1)']
        refine y_muV (rest := []) hE cl_X4_30 (kX4_copies_ij 10 (c + 1) (by omega) (by omega) (by omega) (by omega) (by omega)) dX4_ends_111 hl (Nat.le_of_ble_eq_true rfl) (y_recv hE rfl hW.1) rfl rfl (Nat.le_of_ble_eq_true rfl) hW (fun _ h => h) ⟨(Nat.le_of_ble_eq_true rfl), (Nat.le_of_ble_eq_true rfl)⟩ (fun vr H hW _ _ => ?_)
        have hW : tW z D m (upd (upd g 0 (tThr by_ a b r)) 2 (nI (c + 1))) B (sRow Bs (c + 1) (Bs 10)) L I C H := hW
        refine y_st (st' := []) rfl ?_
        refine y_aload_n hE dX4_ends_114 rfl (lv_at hl 0 rfl) ?_
        refine t_get (v := .int (g 4)) hE 4 (by decide) q1980 rfl hW rfl dX4_ends_115 ?_
        rw [hQ]
        exact y_iret hE dX4_ends_118 ⟨(by rw [e_r, if_pos c37]), (hW.cast (by rw [e_g, if_pos c37, c37, if_neg (fun h => c55 (by rw [h]; rfl))]) (by rw [e_B, if_pos c37]) (by rw [e_Bs, if_pos c37, tPush, if_neg (fun h => c55 (by rw [h]; rfl))]) rfl rfl rfl)⟩ (Nat.le_of_ble_eq_true rfl) (Nat.le_of_ble_eq_true rfl)
      · -- f 55
        refine y_iconst (v := 1) hE dX4_ends_58 (by decide) ?_
        refine y_istore (lv' := [(5, .int 1), (0, .ref (m 0)), (1, .int by_), (2, .int a), (3, .int b), (4, .int r)]) hE dX4_ends_59 hl (by decide) rfl (fun ls hl => ?_)
        have K61 : ∀ k : Nat, k ≤ 8 → ∀ (H : Heap) (ls : Array Slot), lv_has ls 6 [(5, .int (nI k)), (0, .ref (m 0)), (1, .int by_), (2, .int a), (3, .int b), (4, .int r)] → tW z D m (upd g 0 (tThr by_ a b r)) B (shR Bs k) L I C H → (1 ≤ k) → yY E (tA m) H 0 0 Q 61 ls [] := by
          refine y_loop ?_ ?_
          · -- the end of the loop at 61
            intro H ls hl hW hk1
            refine y_iload hE dX4_ends_61 (lv_at hl 0 rfl) ?_
            refine y_bipush (v := 8) hE dX4_ends_63 (by decide) ?_
            refine y_set1 (w := nI 8) (rfl) ?_
            refine y_icmp_ge (tgt := 84) hE dX4_ends_65 (by decide) (fun c65 => ?_) (fun c65 => ?_)
            · -- t 65
              refine y_aload_n hE dX4_ends_84 rfl (lv_at hl 1 rfl) ?_
              refine y_dup hE dX4_ends_85 rfl ?_
              refine t_get (v := .int (g 2)) hE 2 (by decide) q1978 rfl hW rfl dX4_ends_86 ?_
              refine y_iconst (v := 1) hE dX4_ends_89 (by decide) ?_
              refine y_isub hE dX4_ends_90 ?_
              have e8 : c = 8 := (nI_8 hC).mp c55
              refine y_set1 (w := nI 7) (by rw [hc, e8]; rfl) ?_
              refine t_put (g' := upd (upd g 0 (tThr by_ a b r)) 2 (nI 7)) hE hW 2 (by decide) q1978 rfl rfl rfl rfl rfl dX4_ends_91 (fun H hW => ?_)
              refine y_aload_n hE dX4_ends_94 rfl (lv_at hl 1 rfl) ?_
              refine y_dup hE dX4_ends_95 rfl ?_
              refine t_get (v := .int (nI 7)) hE 2 (by decide) q1978 rfl hW rfl dX4_ends_96 ?_
              refine y_iconst (v := 1) hE dX4_ends_99 (by decide) ?_
              refine y_iadd hE dX4_ends_100 ?_
              refine y_set1 (w := nI 8) rfl ?_
              refine t_put (g' := upd (upd (upd g 0 (tThr by_ a b r)) 2 (nI 7)) 2 (nI 8)) hE hW 2 (by decide) q1978 rfl rfl rfl rfl rfl dX4_ends_101 (fun H hW => ?_)
              refine y_aload_n hE dX4_ends_104 rfl (lv_at hl 1 rfl) ?_
              refine y_bipush (v := 10) hE dX4_ends_105 (by decide) ?_
              refine y_aload_n hE dX4_ends_107 rfl (lv_at hl 1 rfl) ?_
              refine t_get (v := .int (nI 8)) hE 2 (by decide) q1978 rfl hW rfl dX4_ends_108 ?_
              -- call copies ['10', '8']
              refine y_muV (rest := []) hE cl_X4_30 (kX4_copies_ij 10 8 (by omega) (by omega) (by omega) (by omega) (by omega)) dX4_ends_111 hl (Nat.le_of_ble_eq_true rfl) (y_recv hE rfl hW.1) rfl rfl (Nat.le_of_ble_eq_true rfl) hW (fun _ h => h) ⟨(Nat.le_of_ble_eq_true rfl), (Nat.le_of_ble_eq_true rfl)⟩ (fun vr H hW _ _ => ?_)
              have hW : tW z D m (upd (upd (upd g 0 (tThr by_ a b r)) 2 (nI 7)) 2 (nI 8)) B (sRow (shR Bs 8) 8 ((shR Bs 8) 10)) L I C H := hW
              refine y_st (st' := []) rfl ?_
              refine y_aload_n hE dX4_ends_114 rfl (lv_at hl 1 rfl) ?_
              refine t_get (v := .int (g 4)) hE 4 (by decide) q1980 rfl hW rfl dX4_ends_115 ?_
              rw [hQ]
              exact y_iret hE dX4_ends_118 ⟨(by rw [e_r, if_pos c37]), (hW.cast (by rw [e_g, if_pos c37, c37, e8]; simp only [upd_upd]; rfl) (by rw [e_B, if_pos c37]) (by rw [e_Bs, if_pos c37, e8]; exact shR_8 Bs) rfl rfl rfl)⟩ (Nat.le_of_ble_eq_true rfl) (Nat.le_of_ble_eq_true rfl)
            · -- f 65
              exact absurd (nI_le (Nat.le_refl _) (by omega)) c65
          · -- a round of the loop at 61
            intro k hk ih61 H ls hl hW hk1
            refine y_iload hE dX4_ends_61 (lv_at hl 0 rfl) ?_
            refine y_bipush (v := 8) hE dX4_ends_63 (by decide) ?_
            refine y_set1 (w := nI 8) (rfl) ?_
            refine y_icmp_ge (tgt := 84) hE dX4_ends_65 (by decide) (fun c65 => ?_) (fun c65 => ?_)
            · -- t 65
              exact absurd c65 (nI_ge hk (by omega))
            · -- f 65
              refine y_aload_n hE dX4_ends_68 rfl (lv_at hl 1 rfl) ?_
              refine y_iload hE dX4_ends_69 (lv_at hl 0 rfl) ?_
              refine y_iconst (v := 1) hE dX4_ends_71 (by decide) ?_
              refine y_iadd hE dX4_ends_72 ?_
              refine y_set1 (w := nI (k + 1)) (nI_1 k) ?_
              refine y_iload hE dX4_ends_73 (lv_at hl 0 rfl) ?_
              -- call copies ['(k + 1)', 'k']
              refine y_muV (rest := []) hE cl_X4_30 (kX4_copies_ij (k + 1) k (by omega) (by omega) (by omega) (by omega) (by omega)) dX4_ends_75 hl (Nat.le_of_ble_eq_true rfl) (y_recv hE rfl hW.1) rfl rfl (Nat.le_of_ble_eq_true rfl) hW (fun _ h => h) ⟨(Nat.le_of_ble_eq_true rfl), (Nat.le_of_ble_eq_true rfl)⟩ (fun vr H hW _ _ => ?_)
              have hW : tW z D m (upd g 0 (tThr by_ a b r)) B (sRow (shR Bs k) k ((shR Bs k) (k + 1))) L I C H := hW
              refine y_st (st' := []) rfl ?_
              refine y_iinc (v := nI (k + 1)) (lv' := [(5, .int (nI (k + 1))), (0, .ref (m 0)), (1, .int by_), (2, .int a), (3, .int b), (4, .int r)]) hE dX4_ends_78 hl (k := 0) rfl (nI_1 k) (by decide) rfl (fun ls hl => ?_)
              refine y_goto (tgt := 61) hE dX4_ends_81 (by decide) ?_
              exact ih61 _ _ (lv_sub hl [0, 1, 2, 3, 4, 5] rfl) (hW.cast rfl rfl (shR_s Bs hk1) rfl rfl rfl) (by omega)
        exact K61 1 (by omega) _ _ (lv_sub hl [0, 1, 2, 3, 4, 5] rfl) (hW.cast rfl rfl (shR_1 Bs).symm rfl rfl rfl) (by omega)
    · -- f 37
      refine y_aload_n hE dX4_ends_40 rfl (lv_at hl 0 rfl) ?_
      refine y_bipush (v := 10) hE dX4_ends_41 (by decide) ?_
      refine y_iconst (v := 0) hE dX4_ends_43 (by decide) ?_
      -- call copies ['10', '0']
      refine y_muV (rest := []) hE cl_X4_30 (kX4_copies_j0 10 (by omega) (by omega)) dX4_ends_44 hl (Nat.le_of_ble_eq_true rfl) (y_recv hE rfl hW.1) rfl rfl (Nat.le_of_ble_eq_true rfl) hW (fun _ h => h) ⟨(Nat.le_of_ble_eq_true rfl), (Nat.le_of_ble_eq_true rfl)⟩ (fun vr H hW _ _ => ?_)
      have hW : tW z D m (upd g 0 (tThr by_ a b r)) (Bs 10) Bs L I C H := hW
      refine y_st (st' := []) rfl ?_
      refine y_iconst (v := 0) hE dX4_ends_47 (by decide) ?_
      rw [hQ]
      exact y_iret hE dX4_ends_48 ⟨(by rw [e_r, if_neg c37]), (hW.cast (by rw [e_g, if_neg c37]) (by rw [e_B, if_neg c37]) (by rw [e_Bs, if_neg c37]) rfl rfl rfl)⟩ (Nat.le_of_ble_eq_true rfl) (Nat.le_of_ble_eq_true rfl)
  refine y_icmp_ne (tgt := 10) hE dX4_ends_3 (by decide) (fun c3 => ?_) (fun c3 => ?_)
  · -- t 3
    refine y_iload_n hE dX4_ends_10 rfl (lv_at hl 1 rfl) ?_
    refine y_iconst (v := 2) hE dX4_ends_11 (by decide) ?_
    refine y_icmp_ne (tgt := 19) hE dX4_ends_12 (by decide) (fun c12 => ?_) (fun c12 => ?_)
    · -- t 12
      refine y_iload_n hE dX4_ends_19 rfl (lv_at hl 1 rfl) ?_
      refine y_iconst (v := 3) hE dX4_ends_20 (by decide) ?_
      refine y_icmp_ne (tgt := 29) hE dX4_ends_21 (by decide) (fun c21 => ?_) (fun c21 => ?_)
      · -- t 21
        refine y_iconst (v := 0) hE dX4_ends_29 (by decide) ?_
        exact y_set1 ((by simp_all [tThr])) (K30 _ hl)
      · -- f 21
        refine y_iload hE dX4_ends_24 (lv_at hl 4 rfl) ?_
        refine y_goto (tgt := 30) hE dX4_ends_26 (by decide) ?_
        exact y_set1 ((by simp_all [tThr])) (K30 _ hl)
    · -- f 12
      refine y_iload_n hE dX4_ends_15 rfl (lv_at hl 3 rfl) ?_
      refine y_goto (tgt := 30) hE dX4_ends_16 (by decide) ?_
      exact y_set1 ((by simp_all [tThr])) (K30 _ hl)
  · -- f 3
    refine y_iload_n hE dX4_ends_6 rfl (lv_at hl 2 rfl) ?_
    refine y_goto (tgt := 30) hE dX4_ends_7 (by decide) ?_
    exact y_set1 ((by simp_all [tThr])) (K30 _ hl)

set_option maxHeartbeats 1000000 in
theorem kX4_adds {z : State} {D : yD} {m : Nat → Nat} {g B : Nat → Int32} {Bs : Nat → Nat → Int32} {L I C : Nat → Int32} (n : Nat) (r : Int32) (c : Int32) (q : Int32) (hn : B 0 = nI n) (hN : n ≤ 12) : yM yX4_adds (ws_ yX4_adds cX4_adds 7 (some .int)) (rmD 8 0 0) z D [.ref (m 0), .int r, .int c, .int q] (tW z D m g B Bs L I C) eI (fun vr H => vr = tBy (o_adds B n r c q) ∧ tW z D m (tGo g (o_adds B n r c q)) (tBo B (o_adds B n r c q)) Bs L I C H) 0 0 (tA m) := by
  refine yM_of (own := RX4) (by decide +kernel) rfl (Nat.le_of_ble_eq_true rfl) (fun H h => h.az) fun E hE hW ls hl hin => ?_
  obtain ⟨Q, hQ⟩ : ∃ Q, Q = yEm E eI (fun vr H => vr = tBy (o_adds B n r c q) ∧ tW z D m (tGo g (o_adds B n r c q)) (tBo B (o_adds B n r c q)) Bs L I C H) 0 0 (tA m) := ⟨_, rfl⟩
  rw [← hQ]
  generalize (e_s E).heap = H at hW ⊢
  have hl : lv_has ls 7 [(0, .ref (m 0)), (1, .int r), (2, .int c), (3, .int q)] := hl
  refine y_iload_n hE dX4_adds_0 rfl (lv_at hl 1 rfl) ?_
  refine y_iload_n hE dX4_adds_1 rfl (lv_at hl 2 rfl) ?_
  -- call isCell ['r', 'c']
  refine y_roS (rest := []) hE cl_X4_80 (kX4_isCell r c) dX4_adds_2 hl (Nat.le_of_ble_eq_true rfl) rfl rfl (Nat.le_of_ble_eq_true rfl) trivial ⟨(Nat.le_of_ble_eq_true rfl), (Nat.le_of_ble_eq_true rfl)⟩ ?_
  refine y_if_ne (tgt := 10) hE dX4_adds_5 (by decide) (fun c5 => ?_) (fun c5 => ?_)
  · -- t 5
    rw [zb_1] at c5
    refine y_iload_n hE dX4_adds_10 rfl (lv_at hl 3 rfl) ?_
    refine y_iconst (v := 1) hE dX4_adds_11 (by decide) ?_
    refine y_bipush (v := 9) hE dX4_adds_12 (by decide) ?_
    -- call in ['q', '1', '9']
    refine y_roS (rest := []) hE cl_X4_53 (kX4_in q 1 9) dX4_adds_14 hl (Nat.le_of_ble_eq_true rfl) rfl rfl (Nat.le_of_ble_eq_true rfl) trivial ⟨(Nat.le_of_ble_eq_true rfl), (Nat.le_of_ble_eq_true rfl)⟩ ?_
    refine y_if_ne (tgt := 22) hE dX4_adds_17 (by decide) (fun c17 => ?_) (fun c17 => ?_)
    · -- t 17
      rw [zb_1] at c17
      refine y_aload_n hE dX4_adds_22 rfl (lv_at hl 0 rfl) ?_
      refine t_get (v := .ref (m 1)) hE 1 (by decide) q1977 rfl hW rfl dX4_adds_23 ?_
      refine y_iconst (v := 0) hE dX4_adds_26 (by decide) ?_
      refine t_aldB (j := 0) (v := B 0) hE hW (rfl) (by decide) rfl dX4_adds_27 ?_
      refine y_set1 (w := nI n) (hn) ?_
      refine y_istore (lv' := [(4, .int (nI n)), (0, .ref (m 0)), (1, .int r), (2, .int c), (3, .int q)]) hE dX4_adds_28 hl (by decide) rfl (fun ls hl => ?_)
      refine y_aload_n hE dX4_adds_30 rfl (lv_at hl 1 rfl) ?_
      refine y_iload_n hE dX4_adds_31 rfl (lv_at hl 2 rfl) ?_
      refine y_iload_n hE dX4_adds_32 rfl (lv_at hl 3 rfl) ?_
      -- call inCell ['r', 'c']
      refine y_roV (rest := []) hE cl_X4_61 (kX4_inCell n r c hn hN) dX4_adds_33 hl (Nat.le_of_ble_eq_true rfl) (y_recv hE rfl hW.1) rfl rfl (Nat.le_of_ble_eq_true rfl) hW ⟨(Nat.le_of_ble_eq_true rfl), (Nat.le_of_ble_eq_true rfl)⟩ ?_
      refine y_istore (lv' := [(5, .int (m_o (m_at B n r c))), (4, .int (nI n)), (0, .ref (m 0)), (1, .int r), (2, .int c), (3, .int q)]) hE dX4_adds_36 hl (by decide) rfl (fun ls hl => ?_)
      refine y_aload_n hE dX4_adds_38 rfl (lv_at hl 2 rfl) ?_
      refine y_iload hE dX4_adds_39 (lv_at hl 1 rfl) ?_
      refine y_bipush (v := 12) hE dX4_adds_41 (by decide) ?_
      refine y_icmp_ne (tgt := 50) hE dX4_adds_43 (by decide) (fun c43 => ?_) (fun c43 => ?_)
      · -- t 43
        have e12 : ¬ n = 12 := fun h => c43 ((nI_12 hN).mpr h)
        have hn12 : n < 12 := by omega
        refine y_iconst (v := 0) hE dX4_adds_50 (by decide) ?_
        refine y_iconst (v := 1) hE dX4_adds_51 (by decide) ?_
        refine y_bipush (v := 12) hE dX4_adds_52 (by decide) ?_
        -- call rejects ['false', '1', '12']
        refine y_muV (rest := []) hE cl_X4_84 (kX4_rejects false 1 12) dX4_adds_54 hl (Nat.le_of_ble_eq_true rfl) (y_recv hE rfl hW.1) rfl rfl (Nat.le_of_ble_eq_true rfl) hW (fun _ h => h) ⟨(Nat.le_of_ble_eq_true rfl), (Nat.le_of_ble_eq_true rfl)⟩ (fun vr H hW _ _ => ?_)
        obtain ⟨hr, hW⟩ := hW
        subst hr
        have hW : tW z D m g B Bs L I C H := hW
        refine y_st (st' := [.int (zb false)]) rfl ?_
        refine y_if_ne (tgt := 80) hE dX4_adds_57 (by decide) (fun c57 => ?_) (fun c57 => ?_)
        · -- t 57
          rw [zb_1] at c57
          exact absurd c57 (by decide)
        · -- f 57
          rw [zb_0] at c57
          refine y_aload_n hE dX4_adds_60 rfl (lv_at hl 2 rfl) ?_
          refine y_iload hE dX4_adds_61 (lv_at hl 0 rfl) ?_
          rcases ho : m_at B n r c with _ | j
          · -- case
            refine y_set1 (w := -1) rfl ?_
            have hl : lv_has ls 7 [(5, .int (-1)), (4, .int (nI n)), (0, .ref (m 0)), (1, .int r), (2, .int c), (3, .int q)] := by rw [ho] at hl; exact hl
            refine y_if_lt (tgt := 70) hE dX4_adds_63 (by decide) (fun c63 => ?_) (fun c63 => ?_)
            · -- t 63
              refine y_iconst (v := 0) hE dX4_adds_70 (by decide) ?_
              refine y_iconst (v := 2) hE dX4_adds_71 (by decide) ?_
              refine y_iload hE dX4_adds_72 (lv_at hl 0 rfl) ?_
              -- call rejects ['false', '2', '-1']
              refine y_muV (rest := []) hE cl_X4_84 (kX4_rejects false 2 (-1)) dX4_adds_74 hl (Nat.le_of_ble_eq_true rfl) (y_recv hE rfl hW.1) rfl rfl (Nat.le_of_ble_eq_true rfl) hW (fun _ h => h) ⟨(Nat.le_of_ble_eq_true rfl), (Nat.le_of_ble_eq_true rfl)⟩ (fun vr H hW _ _ => ?_)
              obtain ⟨hr, hW⟩ := hW
              subst hr
              have hW : tW z D m g B Bs L I C H := hW
              refine y_st (st' := [.int (zb false)]) rfl ?_
              refine y_if_eq (tgt := 82) hE dX4_adds_77 (by decide) (fun c77 => ?_) (fun c77 => ?_)
              · -- t 77
                rw [zb_0] at c77
                refine y_aload_n hE dX4_adds_82 rfl (lv_at hl 2 rfl) ?_
                refine t_get (v := .ref (m 1)) hE 1 (by decide) q1977 rfl hW rfl dX4_adds_83 ?_
                refine y_iconst (v := 0) hE dX4_adds_86 (by decide) ?_
                refine y_dup2_11 hE dX4_adds_87 rfl rfl ?_
                refine t_aldB (j := 0) (v := B 0) hE hW (rfl) (by decide) rfl dX4_adds_88 ?_
                refine y_iconst (v := 1) hE dX4_adds_89 (by decide) ?_
                refine y_iadd hE dX4_adds_90 ?_
                refine y_set1 (w := nI (n + 1)) (by rw [hn]; exact nI_1 n) ?_
                refine t_astB (j := 0) hE hW (rfl) (by decide) dX4_adds_91 (fun H hW => ?_)
                refine y_iconst (v := 0) hE dX4_adds_92 (by decide) ?_
                refine y_istore (lv' := [(6, .int 0), (5, .int (-1)), (4, .int (nI n)), (0, .ref (m 0)), (1, .int r), (2, .int c), (3, .int q)]) hE dX4_adds_93 hl (by decide) rfl (fun ls hl => ?_)
                have K95 : ∀ i : Nat, i ≤ 6 → ∀ (H : Heap) (ls : Array Slot), lv_has ls 7 [(6, .int (nI i)), (5, .int (-1)), (4, .int (nI n)), (0, .ref (m 0)), (1, .int r), (2, .int c), (3, .int q)] → tW z D m g (a_clr (upd B 0 (nI (n + 1))) n i) Bs L I C H → yY E (tA m) H 0 0 Q 95 ls [] := by
                  refine y_loop ?_ ?_
                  · -- the end of the loop at 95
                    intro H ls hl hW 
                    refine y_iload hE dX4_adds_95 (lv_at hl 0 rfl) ?_
                    refine y_bipush (v := 6) hE dX4_adds_97 (by decide) ?_
                    refine y_set1 (w := nI 6) (rfl) ?_
                    refine y_icmp_ge (tgt := 117) hE dX4_adds_99 (by decide) (fun c99 => ?_) (fun c99 => ?_)
                    · -- t 99
                      refine y_aload_n hE dX4_adds_117 rfl (lv_at hl 3 rfl) ?_
                      refine y_iload hE dX4_adds_118 (lv_at hl 2 rfl) ?_
                      refine y_iconst (v := 0) hE dX4_adds_120 (by decide) ?_
                      refine y_iload_n hE dX4_adds_121 rfl (lv_at hl 4 rfl) ?_
                      -- call set ['n', '0', 'r']
                      refine y_muV (rest := []) hE cl_X4_88 (kX4_set n 0 r (by omega) (by omega)) dX4_adds_122 hl (Nat.le_of_ble_eq_true rfl) (y_recv hE rfl hW.1) rfl rfl (Nat.le_of_ble_eq_true rfl) hW (fun _ h => h) ⟨(Nat.le_of_ble_eq_true rfl), (Nat.le_of_ble_eq_true rfl)⟩ (fun vr H hW _ _ => ?_)
                      have hW : tW z D m g (upd (a_clr (upd B 0 (nI (n + 1))) n 6) (57 + 6 * n + 0) r) Bs L I C H := hW
                      refine y_st (st' := []) rfl ?_
                      refine y_aload_n hE dX4_adds_125 rfl (lv_at hl 3 rfl) ?_
                      refine y_iload hE dX4_adds_126 (lv_at hl 2 rfl) ?_
                      refine y_iconst (v := 1) hE dX4_adds_128 (by decide) ?_
                      refine y_iload_n hE dX4_adds_129 rfl (lv_at hl 5 rfl) ?_
                      -- call set ['n', '1', 'c']
                      refine y_muV (rest := []) hE cl_X4_88 (kX4_set n 1 c (by omega) (by omega)) dX4_adds_130 hl (Nat.le_of_ble_eq_true rfl) (y_recv hE rfl hW.1) rfl rfl (Nat.le_of_ble_eq_true rfl) hW (fun _ h => h) ⟨(Nat.le_of_ble_eq_true rfl), (Nat.le_of_ble_eq_true rfl)⟩ (fun vr H hW _ _ => ?_)
                      have hW : tW z D m g (upd (upd (a_clr (upd B 0 (nI (n + 1))) n 6) (57 + 6 * n + 0) r) (57 + 6 * n + 1) c) Bs L I C H := hW
                      refine y_st (st' := []) rfl ?_
                      refine y_aload_n hE dX4_adds_133 rfl (lv_at hl 3 rfl) ?_
                      refine y_iload hE dX4_adds_134 (lv_at hl 2 rfl) ?_
                      refine y_iconst (v := 2) hE dX4_adds_136 (by decide) ?_
                      refine y_iload_n hE dX4_adds_137 rfl (lv_at hl 6 rfl) ?_
                      -- call set ['n', '2', 'q']
                      refine y_muV (rest := []) hE cl_X4_88 (kX4_set n 2 q (by omega) (by omega)) dX4_adds_138 hl (Nat.le_of_ble_eq_true rfl) (y_recv hE rfl hW.1) rfl rfl (Nat.le_of_ble_eq_true rfl) hW (fun _ h => h) ⟨(Nat.le_of_ble_eq_true rfl), (Nat.le_of_ble_eq_true rfl)⟩ (fun vr H hW _ _ => ?_)
                      have hW : tW z D m g (upd (upd (upd (a_clr (upd B 0 (nI (n + 1))) n 6) (57 + 6 * n + 0) r) (57 + 6 * n + 1) c) (57 + 6 * n + 2) q) Bs L I C H := hW
                      refine y_st (st' := []) rfl ?_
                      refine y_aload_n hE dX4_adds_141 rfl (lv_at hl 3 rfl) ?_
                      refine y_iload hE dX4_adds_142 (lv_at hl 2 rfl) ?_
                      refine t_put (g' := upd g 4 (nI n)) hE hW 4 (by decide) q1980 rfl rfl rfl rfl rfl dX4_adds_144 (fun H hW => ?_)
                      refine y_iconst (v := 0) hE dX4_adds_147 (by decide) ?_
                      rw [hQ]
                      exact y_iret hE dX4_adds_148 ⟨(by simp [tBy, tGo, tBo, o_adds, c_adds, c5, c17, e12, ho]), (hW.cast (by simp [tBy, tGo, tBo, o_adds, c_adds, c5, c17, e12, ho]) (by rw [m_addB_e]; simp [tBy, tGo, tBo, o_adds, c_adds, c5, c17, e12, ho]) rfl rfl rfl rfl)⟩ (Nat.le_of_ble_eq_true rfl) (Nat.le_of_ble_eq_true rfl)
                    · -- f 99
                      exact absurd (nI_le (Nat.le_refl _) (by omega)) c99
                  · -- a round of the loop at 95
                    intro i hi ih95 H ls hl hW 
                    refine y_iload hE dX4_adds_95 (lv_at hl 0 rfl) ?_
                    refine y_bipush (v := 6) hE dX4_adds_97 (by decide) ?_
                    refine y_set1 (w := nI 6) (rfl) ?_
                    refine y_icmp_ge (tgt := 117) hE dX4_adds_99 (by decide) (fun c99 => ?_) (fun c99 => ?_)
                    · -- t 99
                      exact absurd c99 (nI_ge hi (by omega))
                    · -- f 99
                      refine y_aload_n hE dX4_adds_102 rfl (lv_at hl 3 rfl) ?_
                      refine y_iload hE dX4_adds_103 (lv_at hl 2 rfl) ?_
                      refine y_iload hE dX4_adds_105 (lv_at hl 0 rfl) ?_
                      refine y_iconst (v := 0) hE dX4_adds_107 (by decide) ?_
                      -- call set ['n', 'i', '0']
                      refine y_muV (rest := []) hE cl_X4_88 (kX4_set n i 0 (by omega) (by omega)) dX4_adds_108 hl (Nat.le_of_ble_eq_true rfl) (y_recv hE rfl hW.1) rfl rfl (Nat.le_of_ble_eq_true rfl) hW (fun _ h => h) ⟨(Nat.le_of_ble_eq_true rfl), (Nat.le_of_ble_eq_true rfl)⟩ (fun vr H hW _ _ => ?_)
                      have hW : tW z D m g (upd (a_clr (upd B 0 (nI (n + 1))) n i) (57 + 6 * n + i) 0) Bs L I C H := hW
                      refine y_st (st' := []) rfl ?_
                      refine y_iinc (v := nI (i + 1)) (lv' := [(6, .int (nI (i + 1))), (5, .int (-1)), (4, .int (nI n)), (0, .ref (m 0)), (1, .int r), (2, .int c), (3, .int q)]) hE dX4_adds_111 hl (k := 0) rfl (nI_1 i) (by decide) rfl (fun ls hl => ?_)
                      refine y_goto (tgt := 95) hE dX4_adds_114 (by decide) ?_
                      exact ih95 _ _ (lv_sub hl [0, 1, 2, 3, 4, 5, 6] rfl) (hW.cast rfl (a_clr_s _ _ _) rfl rfl rfl rfl)
                exact K95 0 (Nat.zero_le _) _ _ (lv_sub hl [0, 1, 2, 3, 4, 5, 6] rfl) (hW.cast rfl (a_clr_0 _ _).symm rfl rfl rfl rfl)
              · -- f 77
                rw [zb_1] at c77
                exact absurd c77 (by decide)
            · -- f 63
              exact absurd c63 (by decide)
          · -- case
            have hj := m_at_lt ho
            refine y_set1 (w := nI j) rfl ?_
            have hl : lv_has ls 7 [(5, .int (nI j)), (4, .int (nI n)), (0, .ref (m 0)), (1, .int r), (2, .int c), (3, .int q)] := by rw [ho] at hl; exact hl
            refine y_if_lt (tgt := 70) hE dX4_adds_63 (by decide) (fun c63 => ?_) (fun c63 => ?_)
            · -- t 63
              exact absurd c63 (nI_pos (by omega))
            · -- f 63
              refine y_iconst (v := 1) hE dX4_adds_66 (by decide) ?_
              refine y_goto (tgt := 71) hE dX4_adds_67 (by decide) ?_
              refine y_iconst (v := 2) hE dX4_adds_71 (by decide) ?_
              refine y_iload hE dX4_adds_72 (lv_at hl 0 rfl) ?_
              -- call rejects ['true', '2', 'nI j']
              refine y_muV (rest := []) hE cl_X4_84 (kX4_rejects true 2 (nI j)) dX4_adds_74 hl (Nat.le_of_ble_eq_true rfl) (y_recv hE rfl hW.1) rfl rfl (Nat.le_of_ble_eq_true rfl) hW (fun _ h => h) ⟨(Nat.le_of_ble_eq_true rfl), (Nat.le_of_ble_eq_true rfl)⟩ (fun vr H hW _ _ => ?_)
              obtain ⟨hr, hW⟩ := hW
              subst hr
              have hW : tW z D m (rej g 2 (nI j)) B Bs L I C H := hW
              refine y_st (st' := [.int (zb true)]) rfl ?_
              refine y_if_eq (tgt := 82) hE dX4_adds_77 (by decide) (fun c77 => ?_) (fun c77 => ?_)
              · -- t 77
                rw [zb_0] at c77
                exact absurd c77 (by decide)
              · -- f 77
                rw [zb_1] at c77
                refine y_iconst (v := 3) hE dX4_adds_80 (by decide) ?_
                rw [hQ]
                exact y_iret hE dX4_adds_81 ⟨(by simp [tBy, tGo, tBo, o_adds, c_adds, c5, c17, e12, ho]), (hW.cast (by simp [tBy, tGo, tBo, o_adds, c_adds, c5, c17, e12, ho]) (by simp [tBy, tGo, tBo, o_adds, c_adds, c5, c17, e12, ho]) rfl rfl rfl rfl)⟩ (Nat.le_of_ble_eq_true rfl) (Nat.le_of_ble_eq_true rfl)
      · -- f 43
        have e12 : n = 12 := (nI_12 hN).mp c43
        refine y_iconst (v := 1) hE dX4_adds_46 (by decide) ?_
        refine y_goto (tgt := 51) hE dX4_adds_47 (by decide) ?_
        refine y_iconst (v := 1) hE dX4_adds_51 (by decide) ?_
        refine y_bipush (v := 12) hE dX4_adds_52 (by decide) ?_
        -- call rejects ['true', '1', '12']
        refine y_muV (rest := []) hE cl_X4_84 (kX4_rejects true 1 12) dX4_adds_54 hl (Nat.le_of_ble_eq_true rfl) (y_recv hE rfl hW.1) rfl rfl (Nat.le_of_ble_eq_true rfl) hW (fun _ h => h) ⟨(Nat.le_of_ble_eq_true rfl), (Nat.le_of_ble_eq_true rfl)⟩ (fun vr H hW _ _ => ?_)
        obtain ⟨hr, hW⟩ := hW
        subst hr
        have hW : tW z D m (rej g 1 12) B Bs L I C H := hW
        refine y_st (st' := [.int (zb true)]) rfl ?_
        refine y_if_ne (tgt := 80) hE dX4_adds_57 (by decide) (fun c57 => ?_) (fun c57 => ?_)
        · -- t 57
          rw [zb_1] at c57
          refine y_iconst (v := 3) hE dX4_adds_80 (by decide) ?_
          rw [hQ]
          exact y_iret hE dX4_adds_81 ⟨(by simp [tBy, tGo, tBo, o_adds, c_adds, c5, c17, e12]), (hW.cast (by simp [tBy, tGo, tBo, o_adds, c_adds, c5, c17, e12]) (by simp [tBy, tGo, tBo, o_adds, c_adds, c5, c17, e12]) rfl rfl rfl rfl)⟩ (Nat.le_of_ble_eq_true rfl) (Nat.le_of_ble_eq_true rfl)
        · -- f 57
          rw [zb_0] at c57
          exact absurd c57 (by decide)
    · -- f 17
      rw [zb_0] at c17
      refine y_iconst (v := 2) hE dX4_adds_20 (by decide) ?_
      rw [hQ]
      exact y_iret hE dX4_adds_21 ⟨(by simp [tBy, tGo, tBo, o_adds, c_adds, c5, c17]), (hW.cast (by simp [tBy, tGo, tBo, o_adds, c_adds, c5, c17]) (by simp [tBy, tGo, tBo, o_adds, c_adds, c5, c17]) rfl rfl rfl rfl)⟩ (Nat.le_of_ble_eq_true rfl) (Nat.le_of_ble_eq_true rfl)
  · -- f 5
    rw [zb_0] at c5
    refine y_iconst (v := 1) hE dX4_adds_8 (by decide) ?_
    rw [hQ]
    exact y_iret hE dX4_adds_9 ⟨(by simp [tBy, tGo, tBo, o_adds, c_adds, c5]), (hW.cast (by simp [tBy, tGo, tBo, o_adds, c_adds, c5]) (by simp [tBy, tGo, tBo, o_adds, c_adds, c5]) rfl rfl rfl rfl)⟩ (Nat.le_of_ble_eq_true rfl) (Nat.le_of_ble_eq_true rfl)

set_option maxHeartbeats 1000000 in
theorem kX4_fails {z : State} {D : yD} {m : Nat → Nat} {g B : Nat → Int32} {Bs : Nat → Nat → Int32} {L I C : Nat → Int32} (n : Nat) (x : Int32) (hn : B 0 = nI n) (hN : n ≤ 12) : yM yX4_fails (ws_ yX4_fails cX4_fails 2 (some .int)) (rmD 8 0 0) z D [.ref (m 0), .int x] (tW z D m g B Bs L I C) eI (fun vr H => vr = tBy (o_fails B n x) ∧ tW z D m (tGo g (o_fails B n x)) (tBo B (o_fails B n x)) Bs L I C H) 0 0 (tA m) := by
  refine yM_of (own := RX4) (by decide +kernel) rfl (Nat.le_of_ble_eq_true rfl) (fun H h => h.az) fun E hE hW ls hl hin => ?_
  obtain ⟨Q, hQ⟩ : ∃ Q, Q = yEm E eI (fun vr H => vr = tBy (o_fails B n x) ∧ tW z D m (tGo g (o_fails B n x)) (tBo B (o_fails B n x)) Bs L I C H) 0 0 (tA m) := ⟨_, rfl⟩
  rw [← hQ]
  generalize (e_s E).heap = H at hW ⊢
  have hl : lv_has ls 2 [(0, .ref (m 0)), (1, .int x)] := hl
  rcases m_isT_or n x hN with ⟨hx, hxi⟩ | ⟨k, hk, rfl, hx, hxi⟩
  · -- no such place
    refine y_aload_n hE dX4_fails_0 rfl (lv_at hl 0 rfl) ?_
    refine y_iload_n hE dX4_fails_1 rfl (lv_at hl 1 rfl) ?_
    -- call isTurbine ['x']
    refine y_roV (rest := []) hE cl_X4_103 (kX4_isTurbine n x hn) dX4_fails_2 hl (Nat.le_of_ble_eq_true rfl) (y_recv hE rfl hW.1) rfl rfl (Nat.le_of_ble_eq_true rfl) hW ⟨(Nat.le_of_ble_eq_true rfl), (Nat.le_of_ble_eq_true rfl)⟩ ?_
    refine y_if_ne (tgt := 10) hE dX4_fails_5 (by decide) (fun c5 => ?_) (fun c5 => ?_)
    · -- t 5
      rw [zb_1] at c5
      exact absurd c5 (by simp [hx])
    · -- f 5
      rw [zb_0] at c5
      refine y_iconst (v := 1) hE dX4_fails_8 (by decide) ?_
      rw [hQ]
      exact y_iret hE dX4_fails_9 ⟨(by simp [tBy, tGo, tBo, o_fails, c_fails, hxi, c5]), hW.cast (by simp [tBy, tGo, tBo, o_fails, c_fails, hxi, c5]) (by simp [tBy, tGo, tBo, o_fails, c_fails, hxi, c5]) rfl rfl rfl rfl⟩ (Nat.le_of_ble_eq_true rfl) (Nat.le_of_ble_eq_true rfl)
  · -- a place
    have hl : lv_has ls 2 [(0, .ref (m 0)), (1, .int (nI k))] := hl
    refine y_aload_n hE dX4_fails_0 rfl (lv_at hl 0 rfl) ?_
    refine y_iload_n hE dX4_fails_1 rfl (lv_at hl 1 rfl) ?_
    -- call isTurbine ['nI k']
    refine y_roV (rest := []) hE cl_X4_103 (kX4_isTurbine n (nI k) hn) dX4_fails_2 hl (Nat.le_of_ble_eq_true rfl) (y_recv hE rfl hW.1) rfl rfl (Nat.le_of_ble_eq_true rfl) hW ⟨(Nat.le_of_ble_eq_true rfl), (Nat.le_of_ble_eq_true rfl)⟩ ?_
    refine y_if_ne (tgt := 10) hE dX4_fails_5 (by decide) (fun c5 => ?_) (fun c5 => ?_)
    · -- t 5
      rw [zb_1] at c5
      refine y_aload_n hE dX4_fails_10 rfl (lv_at hl 0 rfl) ?_
      refine y_aload_n hE dX4_fails_11 rfl (lv_at hl 0 rfl) ?_
      refine y_iload_n hE dX4_fails_12 rfl (lv_at hl 1 rfl) ?_
      refine y_iconst (v := 3) hE dX4_fails_13 (by decide) ?_
      -- call t ['k', '3']
      refine y_roV (rest := [.ref (m 0)]) hE cl_X4_57 (kX4_t k 3 (by omega) (by omega)) dX4_fails_14 hl (Nat.le_of_ble_eq_true rfl) (y_recv hE rfl hW.1) rfl rfl (Nat.le_of_ble_eq_true rfl) hW ⟨(Nat.le_of_ble_eq_true rfl), (Nat.le_of_ble_eq_true rfl)⟩ ?_
      refine y_if_eq (tgt := 24) hE dX4_fails_17 (by decide) (fun c17 => ?_) (fun c17 => ?_)
      · -- t 17
        refine y_iconst (v := 0) hE dX4_fails_24 (by decide) ?_
        refine y_iconst (v := 3) hE dX4_fails_25 (by decide) ?_
        refine y_aload_n hE dX4_fails_26 rfl (lv_at hl 0 rfl) ?_
        refine y_iload_n hE dX4_fails_27 rfl (lv_at hl 1 rfl) ?_
        refine y_iconst (v := 4) hE dX4_fails_28 (by decide) ?_
        -- call t ['k', '4']
        refine y_roV (rest := [.int 3, .int 0, .ref (m 0)]) hE cl_X4_57 (kX4_t k 4 (by omega) (by omega)) dX4_fails_29 hl (Nat.le_of_ble_eq_true rfl) (y_recv hE rfl hW.1) rfl rfl (Nat.le_of_ble_eq_true rfl) hW ⟨(Nat.le_of_ble_eq_true rfl), (Nat.le_of_ble_eq_true rfl)⟩ ?_
        -- call rejects ['false', '3', 'm_t B k 4']
        refine y_muV (rest := []) hE cl_X4_84 (kX4_rejects false 3 (m_t B k 4)) dX4_fails_32 hl (Nat.le_of_ble_eq_true rfl) (y_recv hE rfl hW.1) rfl rfl (Nat.le_of_ble_eq_true rfl) hW (fun _ h => h) ⟨(Nat.le_of_ble_eq_true rfl), (Nat.le_of_ble_eq_true rfl)⟩ (fun vr H hW _ _ => ?_)
        obtain ⟨hr, hW⟩ := hW
        subst hr
        have hW : tW z D m g B Bs L I C H := hW
        refine y_st (st' := [.int (zb false)]) rfl ?_
        refine y_if_eq (tgt := 40) hE dX4_fails_35 (by decide) (fun c35 => ?_) (fun c35 => ?_)
        · -- t 35
          rw [zb_0] at c35
          refine y_aload_n hE dX4_fails_40 rfl (lv_at hl 0 rfl) ?_
          refine y_iload_n hE dX4_fails_41 rfl (lv_at hl 1 rfl) ?_
          refine y_iconst (v := 3) hE dX4_fails_42 (by decide) ?_
          refine y_iconst (v := 1) hE dX4_fails_43 (by decide) ?_
          -- call set ['k', '3', '1']
          refine y_muV (rest := []) hE cl_X4_88 (kX4_set k 3 1 (by omega) (by omega)) dX4_fails_44 hl (Nat.le_of_ble_eq_true rfl) (y_recv hE rfl hW.1) rfl rfl (Nat.le_of_ble_eq_true rfl) hW (fun _ h => h) ⟨(Nat.le_of_ble_eq_true rfl), (Nat.le_of_ble_eq_true rfl)⟩ (fun vr H hW _ _ => ?_)
          have hW : tW z D m g (upd B (57 + 6 * k + 3) 1) Bs L I C H := hW
          refine y_st (st' := []) rfl ?_
          refine y_aload_n hE dX4_fails_47 rfl (lv_at hl 0 rfl) ?_
          refine y_iload_n hE dX4_fails_48 rfl (lv_at hl 1 rfl) ?_
          refine y_iconst (v := 5) hE dX4_fails_49 (by decide) ?_
          refine y_iconst (v := 0) hE dX4_fails_50 (by decide) ?_
          -- call set ['k', '5', '0']
          refine y_muV (rest := []) hE cl_X4_88 (kX4_set k 5 0 (by omega) (by omega)) dX4_fails_51 hl (Nat.le_of_ble_eq_true rfl) (y_recv hE rfl hW.1) rfl rfl (Nat.le_of_ble_eq_true rfl) hW (fun _ h => h) ⟨(Nat.le_of_ble_eq_true rfl), (Nat.le_of_ble_eq_true rfl)⟩ (fun vr H hW _ _ => ?_)
          have hW : tW z D m g (upd (upd B (57 + 6 * k + 3) 1) (57 + 6 * k + 5) 0) Bs L I C H := hW
          refine y_st (st' := []) rfl ?_
          refine y_aload_n hE dX4_fails_54 rfl (lv_at hl 0 rfl) ?_
          refine y_aload_n hE dX4_fails_55 rfl (lv_at hl 0 rfl) ?_
          refine y_iconst (v := 1) hE dX4_fails_56 (by decide) ?_
          -- call inState ['1']
          refine y_roV (rest := [.ref (m 0)]) hE cl_X4_107 (kX4_inState n 1 (by first | exact hn | (rw [upd_ne (by omega)]; exact hn) | (rw [upd_ne (by omega), upd_ne (by omega)]; exact hn)) hN) dX4_fails_57 hl (Nat.le_of_ble_eq_true rfl) (y_recv hE rfl hW.1) rfl rfl (Nat.le_of_ble_eq_true rfl) hW ⟨(Nat.le_of_ble_eq_true rfl), (Nat.le_of_ble_eq_true rfl)⟩ ?_
          refine y_aload_n hE dX4_fails_60 rfl (lv_at hl 0 rfl) ?_
          refine y_iconst (v := 2) hE dX4_fails_61 (by decide) ?_
          -- call inState ['2']
          refine y_roV (rest := [.int (m_inSt (upd (upd B (57 + 6 * k + 3) 1) (57 + 6 * k + 5) 0) n 1), .ref (m 0)]) hE cl_X4_107 (kX4_inState n 2 (by first | exact hn | (rw [upd_ne (by omega)]; exact hn) | (rw [upd_ne (by omega), upd_ne (by omega)]; exact hn)) hN) dX4_fails_62 hl (Nat.le_of_ble_eq_true rfl) (y_recv hE rfl hW.1) rfl rfl (Nat.le_of_ble_eq_true rfl) hW ⟨(Nat.le_of_ble_eq_true rfl), (Nat.le_of_ble_eq_true rfl)⟩ ?_
          refine y_iadd hE dX4_fails_65 ?_
          refine t_put (g' := upd g 4 ((m_inSt (upd (upd B (57 + 6 * k + 3) 1) (57 + 6 * k + 5) 0) n 1) + (m_inSt (upd (upd B (57 + 6 * k + 3) 1) (57 + 6 * k + 5) 0) n 2))) hE hW 4 (by decide) q1980 rfl rfl rfl rfl rfl dX4_fails_66 (fun H hW => ?_)
          refine y_iconst (v := 0) hE dX4_fails_69 (by decide) ?_
          rw [hQ]
          exact y_iret hE dX4_fails_70 ⟨(by simp [tBy, tGo, tBo, o_fails, c_fails, hxi, c5, c17, c35]), hW.cast (by simp [tBy, tGo, tBo, o_fails, c_fails, hxi, c5, c17, c35]) (by simp [tBy, tGo, tBo, o_fails, c_fails, hxi, c5, c17, c35]) rfl rfl rfl rfl⟩ (Nat.le_of_ble_eq_true rfl) (Nat.le_of_ble_eq_true rfl)
        · -- f 35
          rw [zb_1] at c35
          exact absurd c35 (by decide)
      · -- f 17
        refine y_iconst (v := 1) hE dX4_fails_20 (by decide) ?_
        refine y_goto (tgt := 25) hE dX4_fails_21 (by decide) ?_
        refine y_iconst (v := 3) hE dX4_fails_25 (by decide) ?_
        refine y_aload_n hE dX4_fails_26 rfl (lv_at hl 0 rfl) ?_
        refine y_iload_n hE dX4_fails_27 rfl (lv_at hl 1 rfl) ?_
        refine y_iconst (v := 4) hE dX4_fails_28 (by decide) ?_
        -- call t ['k', '4']
        refine y_roV (rest := [.int 3, .int 1, .ref (m 0)]) hE cl_X4_57 (kX4_t k 4 (by omega) (by omega)) dX4_fails_29 hl (Nat.le_of_ble_eq_true rfl) (y_recv hE rfl hW.1) rfl rfl (Nat.le_of_ble_eq_true rfl) hW ⟨(Nat.le_of_ble_eq_true rfl), (Nat.le_of_ble_eq_true rfl)⟩ ?_
        -- call rejects ['true', '3', 'm_t B k 4']
        refine y_muV (rest := []) hE cl_X4_84 (kX4_rejects true 3 (m_t B k 4)) dX4_fails_32 hl (Nat.le_of_ble_eq_true rfl) (y_recv hE rfl hW.1) rfl rfl (Nat.le_of_ble_eq_true rfl) hW (fun _ h => h) ⟨(Nat.le_of_ble_eq_true rfl), (Nat.le_of_ble_eq_true rfl)⟩ (fun vr H hW _ _ => ?_)
        obtain ⟨hr, hW⟩ := hW
        subst hr
        have hW : tW z D m (rej g 3 (m_t B k 4)) B Bs L I C H := hW
        refine y_st (st' := [.int (zb true)]) rfl ?_
        refine y_if_eq (tgt := 40) hE dX4_fails_35 (by decide) (fun c35 => ?_) (fun c35 => ?_)
        · -- t 35
          rw [zb_0] at c35
          exact absurd c35 (by decide)
        · -- f 35
          rw [zb_1] at c35
          refine y_iconst (v := 3) hE dX4_fails_38 (by decide) ?_
          rw [hQ]
          exact y_iret hE dX4_fails_39 ⟨(by simp [tBy, tGo, tBo, o_fails, c_fails, hxi, c5, c17, c35]), hW.cast (by simp [tBy, tGo, tBo, o_fails, c_fails, hxi, c5, c17, c35]) (by simp [tBy, tGo, tBo, o_fails, c_fails, hxi, c5, c17, c35]) rfl rfl rfl rfl⟩ (Nat.le_of_ble_eq_true rfl) (Nat.le_of_ble_eq_true rfl)
    · -- f 5
      rw [zb_0] at c5
      exact absurd c5 (by simp [hx])

set_option maxHeartbeats 1000000 in
theorem kX4_sends {z : State} {D : yD} {m : Nat → Nat} {g B : Nat → Int32} {Bs : Nat → Nat → Int32} {L I C : Nat → Int32} (n : Nat) (x : Int32) (h : Int32) (hn : B 0 = nI n) (hN : n ≤ 12) : yM yX4_sends (ws_ yX4_sends cX4_sends 3 (some .int)) (rmD 8 0 0) z D [.ref (m 0), .int x, .int h] (tW z D m g B Bs L I C) eI (fun vr H => vr = tBy (o_sends B n x h) ∧ tW z D m (tGo g (o_sends B n x h)) (tBo B (o_sends B n x h)) Bs L I C H) 0 0 (tA m) := by
  refine yM_of (own := RX4) (by decide +kernel) rfl (Nat.le_of_ble_eq_true rfl) (fun H h => h.az) fun E hE hW ls hl hin => ?_
  obtain ⟨Q, hQ⟩ : ∃ Q, Q = yEm E eI (fun vr H => vr = tBy (o_sends B n x h) ∧ tW z D m (tGo g (o_sends B n x h)) (tBo B (o_sends B n x h)) Bs L I C H) 0 0 (tA m) := ⟨_, rfl⟩
  rw [← hQ]
  generalize (e_s E).heap = H at hW ⊢
  have hl : lv_has ls 3 [(0, .ref (m 0)), (1, .int x), (2, .int h)] := hl
  rcases m_isT_or n x hN with ⟨hx, hxi⟩ | ⟨k, hk, rfl, hx, hxi⟩
  · -- no such place
    refine y_aload_n hE dX4_sends_0 rfl (lv_at hl 0 rfl) ?_
    refine y_iload_n hE dX4_sends_1 rfl (lv_at hl 1 rfl) ?_
    -- call isTurbine ['x']
    refine y_roV (rest := []) hE cl_X4_103 (kX4_isTurbine n x hn) dX4_sends_2 hl (Nat.le_of_ble_eq_true rfl) (y_recv hE rfl hW.1) rfl rfl (Nat.le_of_ble_eq_true rfl) hW ⟨(Nat.le_of_ble_eq_true rfl), (Nat.le_of_ble_eq_true rfl)⟩ ?_
    refine y_if_ne (tgt := 10) hE dX4_sends_5 (by decide) (fun c5 => ?_) (fun c5 => ?_)
    · -- t 5
      rw [zb_1] at c5
      exact absurd c5 (by simp [hx])
    · -- f 5
      rw [zb_0] at c5
      refine y_iconst (v := 1) hE dX4_sends_8 (by decide) ?_
      rw [hQ]
      exact y_iret hE dX4_sends_9 ⟨(by simp [tBy, tGo, tBo, o_sends, c_sends, hxi, c5]), hW.cast (by simp [tBy, tGo, tBo, o_sends, c_sends, hxi, c5]) (by simp [tBy, tGo, tBo, o_sends, c_sends, hxi, c5]) rfl rfl rfl rfl⟩ (Nat.le_of_ble_eq_true rfl) (Nat.le_of_ble_eq_true rfl)
  · -- a place
    have hl : lv_has ls 3 [(0, .ref (m 0)), (1, .int (nI k)), (2, .int h)] := hl
    refine y_aload_n hE dX4_sends_0 rfl (lv_at hl 0 rfl) ?_
    refine y_iload_n hE dX4_sends_1 rfl (lv_at hl 1 rfl) ?_
    -- call isTurbine ['nI k']
    refine y_roV (rest := []) hE cl_X4_103 (kX4_isTurbine n (nI k) hn) dX4_sends_2 hl (Nat.le_of_ble_eq_true rfl) (y_recv hE rfl hW.1) rfl rfl (Nat.le_of_ble_eq_true rfl) hW ⟨(Nat.le_of_ble_eq_true rfl), (Nat.le_of_ble_eq_true rfl)⟩ ?_
    refine y_if_ne (tgt := 10) hE dX4_sends_5 (by decide) (fun c5 => ?_) (fun c5 => ?_)
    · -- t 5
      rw [zb_1] at c5
      refine y_iload_n hE dX4_sends_10 rfl (lv_at hl 2 rfl) ?_
      refine y_iconst (v := 1) hE dX4_sends_11 (by decide) ?_
      refine y_bipush (v := 12) hE dX4_sends_12 (by decide) ?_
      -- call in ['h', '1', '12']
      refine y_roS (rest := []) hE cl_X4_53 (kX4_in h 1 12) dX4_sends_14 hl (Nat.le_of_ble_eq_true rfl) rfl rfl (Nat.le_of_ble_eq_true rfl) trivial ⟨(Nat.le_of_ble_eq_true rfl), (Nat.le_of_ble_eq_true rfl)⟩ ?_
      refine y_if_ne (tgt := 22) hE dX4_sends_17 (by decide) (fun c17 => ?_) (fun c17 => ?_)
      · -- t 17
        rw [zb_1] at c17
        refine y_aload_n hE dX4_sends_22 rfl (lv_at hl 0 rfl) ?_
        refine y_aload_n hE dX4_sends_23 rfl (lv_at hl 0 rfl) ?_
        refine y_iload_n hE dX4_sends_24 rfl (lv_at hl 1 rfl) ?_
        refine y_iconst (v := 3) hE dX4_sends_25 (by decide) ?_
        -- call t ['k', '3']
        refine y_roV (rest := [.ref (m 0)]) hE cl_X4_57 (kX4_t k 3 (by omega) (by omega)) dX4_sends_26 hl (Nat.le_of_ble_eq_true rfl) (y_recv hE rfl hW.1) rfl rfl (Nat.le_of_ble_eq_true rfl) hW ⟨(Nat.le_of_ble_eq_true rfl), (Nat.le_of_ble_eq_true rfl)⟩ ?_
        refine y_iconst (v := 1) hE dX4_sends_29 (by decide) ?_
        refine y_icmp_eq (tgt := 37) hE dX4_sends_30 (by decide) (fun c30 => ?_) (fun c30 => ?_)
        · -- t 30
          refine y_iconst (v := 0) hE dX4_sends_37 (by decide) ?_
          refine y_iconst (v := 4) hE dX4_sends_38 (by decide) ?_
          refine y_aload_n hE dX4_sends_39 rfl (lv_at hl 0 rfl) ?_
          refine y_iload_n hE dX4_sends_40 rfl (lv_at hl 1 rfl) ?_
          -- call output ['k']
          refine y_roV (rest := [.int 4, .int 0, .ref (m 0)]) hE cl_X4_77 (kX4_output n k hn hN (by omega)) dX4_sends_41 hl (Nat.le_of_ble_eq_true rfl) (y_recv hE rfl hW.1) rfl rfl (Nat.le_of_ble_eq_true rfl) hW ⟨(Nat.le_of_ble_eq_true rfl), (Nat.le_of_ble_eq_true rfl)⟩ ?_
          -- call rejects ['false', '4', 'm_out B n k']
          refine y_muV (rest := []) hE cl_X4_84 (kX4_rejects false 4 (m_out B n k)) dX4_sends_44 hl (Nat.le_of_ble_eq_true rfl) (y_recv hE rfl hW.1) rfl rfl (Nat.le_of_ble_eq_true rfl) hW (fun _ h => h) ⟨(Nat.le_of_ble_eq_true rfl), (Nat.le_of_ble_eq_true rfl)⟩ (fun vr H hW _ _ => ?_)
          obtain ⟨hr, hW⟩ := hW
          subst hr
          have hW : tW z D m g B Bs L I C H := hW
          refine y_st (st' := [.int (zb false)]) rfl ?_
          refine y_if_ne (tgt := 76) hE dX4_sends_47 (by decide) (fun c47 => ?_) (fun c47 => ?_)
          · -- t 47
            rw [zb_1] at c47
            exact absurd c47 (by decide)
          · -- f 47
            rw [zb_0] at c47
            refine y_aload_n hE dX4_sends_50 rfl (lv_at hl 0 rfl) ?_
            refine y_aload_n hE dX4_sends_51 rfl (lv_at hl 0 rfl) ?_
            refine y_iconst (v := 2) hE dX4_sends_52 (by decide) ?_
            -- call inState ['2']
            refine y_roV (rest := [.ref (m 0)]) hE cl_X4_107 (kX4_inState n 2 hn hN) dX4_sends_53 hl (Nat.le_of_ble_eq_true rfl) (y_recv hE rfl hW.1) rfl rfl (Nat.le_of_ble_eq_true rfl) hW ⟨(Nat.le_of_ble_eq_true rfl), (Nat.le_of_ble_eq_true rfl)⟩ ?_
            refine y_iconst (v := 2) hE dX4_sends_56 (by decide) ?_
            refine y_icmp_ne (tgt := 64) hE dX4_sends_57 (by decide) (fun c57 => ?_) (fun c57 => ?_)
            · -- t 57
              refine y_iconst (v := 0) hE dX4_sends_64 (by decide) ?_
              refine y_iconst (v := 5) hE dX4_sends_65 (by decide) ?_
              refine y_aload_n hE dX4_sends_66 rfl (lv_at hl 0 rfl) ?_
              -- call firstInService []
              refine y_roV (rest := [.int 5, .int 0, .ref (m 0)]) hE cl_X4_113 (kX4_firstInService n hn hN) dX4_sends_67 hl (Nat.le_of_ble_eq_true rfl) (y_recv hE rfl hW.1) rfl rfl (Nat.le_of_ble_eq_true rfl) hW ⟨(Nat.le_of_ble_eq_true rfl), (Nat.le_of_ble_eq_true rfl)⟩ ?_
              -- call rejects ['false', '5', 'm_o0 (m_first B n)']
              refine y_muV (rest := []) hE cl_X4_84 (kX4_rejects false 5 (m_o0 (m_first B n))) dX4_sends_70 hl (Nat.le_of_ble_eq_true rfl) (y_recv hE rfl hW.1) rfl rfl (Nat.le_of_ble_eq_true rfl) hW (fun _ h => h) ⟨(Nat.le_of_ble_eq_true rfl), (Nat.le_of_ble_eq_true rfl)⟩ (fun vr H hW _ _ => ?_)
              obtain ⟨hr, hW⟩ := hW
              subst hr
              have hW : tW z D m g B Bs L I C H := hW
              refine y_st (st' := [.int (zb false)]) rfl ?_
              refine y_if_eq (tgt := 78) hE dX4_sends_73 (by decide) (fun c73 => ?_) (fun c73 => ?_)
              · -- t 73
                rw [zb_0] at c73
                refine y_aload_n hE dX4_sends_78 rfl (lv_at hl 0 rfl) ?_
                refine y_iload_n hE dX4_sends_79 rfl (lv_at hl 1 rfl) ?_
                refine y_iconst (v := 3) hE dX4_sends_80 (by decide) ?_
                refine y_iconst (v := 2) hE dX4_sends_81 (by decide) ?_
                -- call set ['k', '3', '2']
                refine y_muV (rest := []) hE cl_X4_88 (kX4_set k 3 2 (by omega) (by omega)) dX4_sends_82 hl (Nat.le_of_ble_eq_true rfl) (y_recv hE rfl hW.1) rfl rfl (Nat.le_of_ble_eq_true rfl) hW (fun _ h => h) ⟨(Nat.le_of_ble_eq_true rfl), (Nat.le_of_ble_eq_true rfl)⟩ (fun vr H hW _ _ => ?_)
                have hW : tW z D m g (upd B (57 + 6 * k + 3) 2) Bs L I C H := hW
                refine y_st (st' := []) rfl ?_
                refine y_aload_n hE dX4_sends_85 rfl (lv_at hl 0 rfl) ?_
                refine y_iload_n hE dX4_sends_86 rfl (lv_at hl 1 rfl) ?_
                refine y_iconst (v := 4) hE dX4_sends_87 (by decide) ?_
                refine y_iload_n hE dX4_sends_88 rfl (lv_at hl 2 rfl) ?_
                -- call set ['k', '4', 'h']
                refine y_muV (rest := []) hE cl_X4_88 (kX4_set k 4 h (by omega) (by omega)) dX4_sends_89 hl (Nat.le_of_ble_eq_true rfl) (y_recv hE rfl hW.1) rfl rfl (Nat.le_of_ble_eq_true rfl) hW (fun _ h => h) ⟨(Nat.le_of_ble_eq_true rfl), (Nat.le_of_ble_eq_true rfl)⟩ (fun vr H hW _ _ => ?_)
                have hW : tW z D m g (upd (upd B (57 + 6 * k + 3) 2) (57 + 6 * k + 4) h) Bs L I C H := hW
                refine y_st (st' := []) rfl ?_
                refine y_aload_n hE dX4_sends_92 rfl (lv_at hl 0 rfl) ?_
                refine y_iconst (v := 2) hE dX4_sends_93 (by decide) ?_
                refine y_aload_n hE dX4_sends_94 rfl (lv_at hl 0 rfl) ?_
                refine y_iconst (v := 2) hE dX4_sends_95 (by decide) ?_
                -- call inState ['2']
                refine y_roV (rest := [.int 2, .ref (m 0)]) hE cl_X4_107 (kX4_inState n 2 (by first | exact hn | (rw [upd_ne (by omega)]; exact hn) | (rw [upd_ne (by omega), upd_ne (by omega)]; exact hn)) hN) dX4_sends_96 hl (Nat.le_of_ble_eq_true rfl) (y_recv hE rfl hW.1) rfl rfl (Nat.le_of_ble_eq_true rfl) hW ⟨(Nat.le_of_ble_eq_true rfl), (Nat.le_of_ble_eq_true rfl)⟩ ?_
                refine y_isub hE dX4_sends_99 ?_
                refine t_put (g' := upd g 4 (2 - (m_inSt (upd (upd B (57 + 6 * k + 3) 2) (57 + 6 * k + 4) h) n 2))) hE hW 4 (by decide) q1980 rfl rfl rfl rfl rfl dX4_sends_100 (fun H hW => ?_)
                refine y_iconst (v := 0) hE dX4_sends_103 (by decide) ?_
                rw [hQ]
                exact y_iret hE dX4_sends_104 ⟨(by simp [tBy, tGo, tBo, o_sends, c_sends, hxi, c5, c17, c30, c47, c57, c73]), hW.cast (by simp [tBy, tGo, tBo, o_sends, c_sends, hxi, c5, c17, c30, c47, c57, c73]) (by simp [tBy, tGo, tBo, o_sends, c_sends, hxi, c5, c17, c30, c47, c57, c73]) rfl rfl rfl rfl⟩ (Nat.le_of_ble_eq_true rfl) (Nat.le_of_ble_eq_true rfl)
              · -- f 73
                rw [zb_1] at c73
                exact absurd c73 (by decide)
            · -- f 57
              refine y_iconst (v := 1) hE dX4_sends_60 (by decide) ?_
              refine y_goto (tgt := 65) hE dX4_sends_61 (by decide) ?_
              refine y_iconst (v := 5) hE dX4_sends_65 (by decide) ?_
              refine y_aload_n hE dX4_sends_66 rfl (lv_at hl 0 rfl) ?_
              -- call firstInService []
              refine y_roV (rest := [.int 5, .int 1, .ref (m 0)]) hE cl_X4_113 (kX4_firstInService n hn hN) dX4_sends_67 hl (Nat.le_of_ble_eq_true rfl) (y_recv hE rfl hW.1) rfl rfl (Nat.le_of_ble_eq_true rfl) hW ⟨(Nat.le_of_ble_eq_true rfl), (Nat.le_of_ble_eq_true rfl)⟩ ?_
              -- call rejects ['true', '5', 'm_o0 (m_first B n)']
              refine y_muV (rest := []) hE cl_X4_84 (kX4_rejects true 5 (m_o0 (m_first B n))) dX4_sends_70 hl (Nat.le_of_ble_eq_true rfl) (y_recv hE rfl hW.1) rfl rfl (Nat.le_of_ble_eq_true rfl) hW (fun _ h => h) ⟨(Nat.le_of_ble_eq_true rfl), (Nat.le_of_ble_eq_true rfl)⟩ (fun vr H hW _ _ => ?_)
              obtain ⟨hr, hW⟩ := hW
              subst hr
              have hW : tW z D m (rej g 5 (m_o0 (m_first B n))) B Bs L I C H := hW
              refine y_st (st' := [.int (zb true)]) rfl ?_
              refine y_if_eq (tgt := 78) hE dX4_sends_73 (by decide) (fun c73 => ?_) (fun c73 => ?_)
              · -- t 73
                rw [zb_0] at c73
                exact absurd c73 (by decide)
              · -- f 73
                rw [zb_1] at c73
                refine y_iconst (v := 3) hE dX4_sends_76 (by decide) ?_
                rw [hQ]
                exact y_iret hE dX4_sends_77 ⟨(by simp [tBy, tGo, tBo, o_sends, c_sends, hxi, c5, c17, c30, c47, c57, c73]), hW.cast (by simp [tBy, tGo, tBo, o_sends, c_sends, hxi, c5, c17, c30, c47, c57, c73]) (by simp [tBy, tGo, tBo, o_sends, c_sends, hxi, c5, c17, c30, c47, c57, c73]) rfl rfl rfl rfl⟩ (Nat.le_of_ble_eq_true rfl) (Nat.le_of_ble_eq_true rfl)
        · -- f 30
          refine y_iconst (v := 1) hE dX4_sends_33 (by decide) ?_
          refine y_goto (tgt := 38) hE dX4_sends_34 (by decide) ?_
          refine y_iconst (v := 4) hE dX4_sends_38 (by decide) ?_
          refine y_aload_n hE dX4_sends_39 rfl (lv_at hl 0 rfl) ?_
          refine y_iload_n hE dX4_sends_40 rfl (lv_at hl 1 rfl) ?_
          -- call output ['k']
          refine y_roV (rest := [.int 4, .int 1, .ref (m 0)]) hE cl_X4_77 (kX4_output n k hn hN (by omega)) dX4_sends_41 hl (Nat.le_of_ble_eq_true rfl) (y_recv hE rfl hW.1) rfl rfl (Nat.le_of_ble_eq_true rfl) hW ⟨(Nat.le_of_ble_eq_true rfl), (Nat.le_of_ble_eq_true rfl)⟩ ?_
          -- call rejects ['true', '4', 'm_out B n k']
          refine y_muV (rest := []) hE cl_X4_84 (kX4_rejects true 4 (m_out B n k)) dX4_sends_44 hl (Nat.le_of_ble_eq_true rfl) (y_recv hE rfl hW.1) rfl rfl (Nat.le_of_ble_eq_true rfl) hW (fun _ h => h) ⟨(Nat.le_of_ble_eq_true rfl), (Nat.le_of_ble_eq_true rfl)⟩ (fun vr H hW _ _ => ?_)
          obtain ⟨hr, hW⟩ := hW
          subst hr
          have hW : tW z D m (rej g 4 (m_out B n k)) B Bs L I C H := hW
          refine y_st (st' := [.int (zb true)]) rfl ?_
          refine y_if_ne (tgt := 76) hE dX4_sends_47 (by decide) (fun c47 => ?_) (fun c47 => ?_)
          · -- t 47
            rw [zb_1] at c47
            refine y_iconst (v := 3) hE dX4_sends_76 (by decide) ?_
            rw [hQ]
            exact y_iret hE dX4_sends_77 ⟨(by simp [tBy, tGo, tBo, o_sends, c_sends, hxi, c5, c17, c30, c47]), hW.cast (by simp [tBy, tGo, tBo, o_sends, c_sends, hxi, c5, c17, c30, c47]) (by simp [tBy, tGo, tBo, o_sends, c_sends, hxi, c5, c17, c30, c47]) rfl rfl rfl rfl⟩ (Nat.le_of_ble_eq_true rfl) (Nat.le_of_ble_eq_true rfl)
          · -- f 47
            rw [zb_0] at c47
            exact absurd c47 (by decide)
      · -- f 17
        rw [zb_0] at c17
        refine y_iconst (v := 2) hE dX4_sends_20 (by decide) ?_
        rw [hQ]
        exact y_iret hE dX4_sends_21 ⟨(by simp [tBy, tGo, tBo, o_sends, c_sends, hxi, c5, c17]), hW.cast (by simp [tBy, tGo, tBo, o_sends, c_sends, hxi, c5, c17]) (by simp [tBy, tGo, tBo, o_sends, c_sends, hxi, c5, c17]) rfl rfl rfl rfl⟩ (Nat.le_of_ble_eq_true rfl) (Nat.le_of_ble_eq_true rfl)
    · -- f 5
      rw [zb_0] at c5
      exact absurd c5 (by simp [hx])

set_option maxHeartbeats 1000000 in
theorem kX4_recalls {z : State} {D : yD} {m : Nat → Nat} {g B : Nat → Int32} {Bs : Nat → Nat → Int32} {L I C : Nat → Int32} (n : Nat) (x : Int32) (hn : B 0 = nI n) (hN : n ≤ 12) : yM yX4_recalls (ws_ yX4_recalls cX4_recalls 2 (some .int)) (rmD 8 0 0) z D [.ref (m 0), .int x] (tW z D m g B Bs L I C) eI (fun vr H => vr = tBy (o_recalls B n x) ∧ tW z D m (tGo g (o_recalls B n x)) (tBo B (o_recalls B n x)) Bs L I C H) 0 0 (tA m) := by
  refine yM_of (own := RX4) (by decide +kernel) rfl (Nat.le_of_ble_eq_true rfl) (fun H h => h.az) fun E hE hW ls hl hin => ?_
  obtain ⟨Q, hQ⟩ : ∃ Q, Q = yEm E eI (fun vr H => vr = tBy (o_recalls B n x) ∧ tW z D m (tGo g (o_recalls B n x)) (tBo B (o_recalls B n x)) Bs L I C H) 0 0 (tA m) := ⟨_, rfl⟩
  rw [← hQ]
  generalize (e_s E).heap = H at hW ⊢
  have hl : lv_has ls 2 [(0, .ref (m 0)), (1, .int x)] := hl
  rcases m_isT_or n x hN with ⟨hx, hxi⟩ | ⟨k, hk, rfl, hx, hxi⟩
  · -- no such place
    refine y_aload_n hE dX4_recalls_0 rfl (lv_at hl 0 rfl) ?_
    refine y_iload_n hE dX4_recalls_1 rfl (lv_at hl 1 rfl) ?_
    -- call isTurbine ['x']
    refine y_roV (rest := []) hE cl_X4_103 (kX4_isTurbine n x hn) dX4_recalls_2 hl (Nat.le_of_ble_eq_true rfl) (y_recv hE rfl hW.1) rfl rfl (Nat.le_of_ble_eq_true rfl) hW ⟨(Nat.le_of_ble_eq_true rfl), (Nat.le_of_ble_eq_true rfl)⟩ ?_
    refine y_if_ne (tgt := 10) hE dX4_recalls_5 (by decide) (fun c5 => ?_) (fun c5 => ?_)
    · -- t 5
      rw [zb_1] at c5
      exact absurd c5 (by simp [hx])
    · -- f 5
      rw [zb_0] at c5
      refine y_iconst (v := 1) hE dX4_recalls_8 (by decide) ?_
      rw [hQ]
      exact y_iret hE dX4_recalls_9 ⟨(by simp [tBy, tGo, tBo, o_recalls, c_recalls, hxi, c5]), hW.cast (by simp [tBy, tGo, tBo, o_recalls, c_recalls, hxi, c5]) (by simp [tBy, tGo, tBo, o_recalls, c_recalls, hxi, c5]) rfl rfl rfl rfl⟩ (Nat.le_of_ble_eq_true rfl) (Nat.le_of_ble_eq_true rfl)
  · -- a place
    have hl : lv_has ls 2 [(0, .ref (m 0)), (1, .int (nI k))] := hl
    refine y_aload_n hE dX4_recalls_0 rfl (lv_at hl 0 rfl) ?_
    refine y_iload_n hE dX4_recalls_1 rfl (lv_at hl 1 rfl) ?_
    -- call isTurbine ['nI k']
    refine y_roV (rest := []) hE cl_X4_103 (kX4_isTurbine n (nI k) hn) dX4_recalls_2 hl (Nat.le_of_ble_eq_true rfl) (y_recv hE rfl hW.1) rfl rfl (Nat.le_of_ble_eq_true rfl) hW ⟨(Nat.le_of_ble_eq_true rfl), (Nat.le_of_ble_eq_true rfl)⟩ ?_
    refine y_if_ne (tgt := 10) hE dX4_recalls_5 (by decide) (fun c5 => ?_) (fun c5 => ?_)
    · -- t 5
      rw [zb_1] at c5
      refine y_aload_n hE dX4_recalls_10 rfl (lv_at hl 0 rfl) ?_
      refine y_aload_n hE dX4_recalls_11 rfl (lv_at hl 0 rfl) ?_
      refine y_iload_n hE dX4_recalls_12 rfl (lv_at hl 1 rfl) ?_
      refine y_iconst (v := 3) hE dX4_recalls_13 (by decide) ?_
      -- call t ['k', '3']
      refine y_roV (rest := [.ref (m 0)]) hE cl_X4_57 (kX4_t k 3 (by omega) (by omega)) dX4_recalls_14 hl (Nat.le_of_ble_eq_true rfl) (y_recv hE rfl hW.1) rfl rfl (Nat.le_of_ble_eq_true rfl) hW ⟨(Nat.le_of_ble_eq_true rfl), (Nat.le_of_ble_eq_true rfl)⟩ ?_
      refine y_iconst (v := 2) hE dX4_recalls_17 (by decide) ?_
      refine y_icmp_eq (tgt := 25) hE dX4_recalls_18 (by decide) (fun c18 => ?_) (fun c18 => ?_)
      · -- t 18
        refine y_iconst (v := 0) hE dX4_recalls_25 (by decide) ?_
        refine y_bipush (v := 6) hE dX4_recalls_26 (by decide) ?_
        refine y_aload_n hE dX4_recalls_28 rfl (lv_at hl 0 rfl) ?_
        refine y_iload_n hE dX4_recalls_29 rfl (lv_at hl 1 rfl) ?_
        -- call output ['k']
        refine y_roV (rest := [.int 6, .int 0, .ref (m 0)]) hE cl_X4_77 (kX4_output n k hn hN (by omega)) dX4_recalls_30 hl (Nat.le_of_ble_eq_true rfl) (y_recv hE rfl hW.1) rfl rfl (Nat.le_of_ble_eq_true rfl) hW ⟨(Nat.le_of_ble_eq_true rfl), (Nat.le_of_ble_eq_true rfl)⟩ ?_
        -- call rejects ['false', '6', 'm_out B n k']
        refine y_muV (rest := []) hE cl_X4_84 (kX4_rejects false 6 (m_out B n k)) dX4_recalls_33 hl (Nat.le_of_ble_eq_true rfl) (y_recv hE rfl hW.1) rfl rfl (Nat.le_of_ble_eq_true rfl) hW (fun _ h => h) ⟨(Nat.le_of_ble_eq_true rfl), (Nat.le_of_ble_eq_true rfl)⟩ (fun vr H hW _ _ => ?_)
        obtain ⟨hr, hW⟩ := hW
        subst hr
        have hW : tW z D m g B Bs L I C H := hW
        refine y_st (st' := [.int (zb false)]) rfl ?_
        refine y_if_eq (tgt := 41) hE dX4_recalls_36 (by decide) (fun c36 => ?_) (fun c36 => ?_)
        · -- t 36
          rw [zb_0] at c36
          refine y_aload_n hE dX4_recalls_41 rfl (lv_at hl 0 rfl) ?_
          refine y_aload_n hE dX4_recalls_42 rfl (lv_at hl 0 rfl) ?_
          refine y_iload_n hE dX4_recalls_43 rfl (lv_at hl 1 rfl) ?_
          refine y_iconst (v := 4) hE dX4_recalls_44 (by decide) ?_
          -- call t ['k', '4']
          refine y_roV (rest := [.ref (m 0)]) hE cl_X4_57 (kX4_t k 4 (by omega) (by omega)) dX4_recalls_45 hl (Nat.le_of_ble_eq_true rfl) (y_recv hE rfl hW.1) rfl rfl (Nat.le_of_ble_eq_true rfl) hW ⟨(Nat.le_of_ble_eq_true rfl), (Nat.le_of_ble_eq_true rfl)⟩ ?_
          refine t_put (g' := upd g 4 (m_t B k 4)) hE hW 4 (by decide) q1980 rfl rfl rfl rfl rfl dX4_recalls_48 (fun H hW => ?_)
          refine y_aload_n hE dX4_recalls_51 rfl (lv_at hl 0 rfl) ?_
          refine y_iload_n hE dX4_recalls_52 rfl (lv_at hl 1 rfl) ?_
          refine y_iconst (v := 3) hE dX4_recalls_53 (by decide) ?_
          refine y_iconst (v := 1) hE dX4_recalls_54 (by decide) ?_
          -- call set ['k', '3', '1']
          refine y_muV (rest := []) hE cl_X4_88 (kX4_set k 3 1 (by omega) (by omega)) dX4_recalls_55 hl (Nat.le_of_ble_eq_true rfl) (y_recv hE rfl hW.1) rfl rfl (Nat.le_of_ble_eq_true rfl) hW (fun _ h => h) ⟨(Nat.le_of_ble_eq_true rfl), (Nat.le_of_ble_eq_true rfl)⟩ (fun vr H hW _ _ => ?_)
          have hW : tW z D m (upd g 4 (m_t B k 4)) (upd B (57 + 6 * k + 3) 1) Bs L I C H := hW
          refine y_st (st' := []) rfl ?_
          refine y_aload_n hE dX4_recalls_58 rfl (lv_at hl 0 rfl) ?_
          refine y_iload_n hE dX4_recalls_59 rfl (lv_at hl 1 rfl) ?_
          refine y_iconst (v := 4) hE dX4_recalls_60 (by decide) ?_
          refine y_iconst (v := 0) hE dX4_recalls_61 (by decide) ?_
          -- call set ['k', '4', '0']
          refine y_muV (rest := []) hE cl_X4_88 (kX4_set k 4 0 (by omega) (by omega)) dX4_recalls_62 hl (Nat.le_of_ble_eq_true rfl) (y_recv hE rfl hW.1) rfl rfl (Nat.le_of_ble_eq_true rfl) hW (fun _ h => h) ⟨(Nat.le_of_ble_eq_true rfl), (Nat.le_of_ble_eq_true rfl)⟩ (fun vr H hW _ _ => ?_)
          have hW : tW z D m (upd g 4 (m_t B k 4)) (upd (upd B (57 + 6 * k + 3) 1) (57 + 6 * k + 4) 0) Bs L I C H := hW
          refine y_st (st' := []) rfl ?_
          refine y_iconst (v := 0) hE dX4_recalls_65 (by decide) ?_
          rw [hQ]
          exact y_iret hE dX4_recalls_66 ⟨(by simp [tBy, tGo, tBo, o_recalls, c_recalls, hxi, c5, c18, c36]), hW.cast (by simp [tBy, tGo, tBo, o_recalls, c_recalls, hxi, c5, c18, c36]) (by simp [tBy, tGo, tBo, o_recalls, c_recalls, hxi, c5, c18, c36]) rfl rfl rfl rfl⟩ (Nat.le_of_ble_eq_true rfl) (Nat.le_of_ble_eq_true rfl)
        · -- f 36
          rw [zb_1] at c36
          exact absurd c36 (by decide)
      · -- f 18
        refine y_iconst (v := 1) hE dX4_recalls_21 (by decide) ?_
        refine y_goto (tgt := 26) hE dX4_recalls_22 (by decide) ?_
        refine y_bipush (v := 6) hE dX4_recalls_26 (by decide) ?_
        refine y_aload_n hE dX4_recalls_28 rfl (lv_at hl 0 rfl) ?_
        refine y_iload_n hE dX4_recalls_29 rfl (lv_at hl 1 rfl) ?_
        -- call output ['k']
        refine y_roV (rest := [.int 6, .int 1, .ref (m 0)]) hE cl_X4_77 (kX4_output n k hn hN (by omega)) dX4_recalls_30 hl (Nat.le_of_ble_eq_true rfl) (y_recv hE rfl hW.1) rfl rfl (Nat.le_of_ble_eq_true rfl) hW ⟨(Nat.le_of_ble_eq_true rfl), (Nat.le_of_ble_eq_true rfl)⟩ ?_
        -- call rejects ['true', '6', 'm_out B n k']
        refine y_muV (rest := []) hE cl_X4_84 (kX4_rejects true 6 (m_out B n k)) dX4_recalls_33 hl (Nat.le_of_ble_eq_true rfl) (y_recv hE rfl hW.1) rfl rfl (Nat.le_of_ble_eq_true rfl) hW (fun _ h => h) ⟨(Nat.le_of_ble_eq_true rfl), (Nat.le_of_ble_eq_true rfl)⟩ (fun vr H hW _ _ => ?_)
        obtain ⟨hr, hW⟩ := hW
        subst hr
        have hW : tW z D m (rej g 6 (m_out B n k)) B Bs L I C H := hW
        refine y_st (st' := [.int (zb true)]) rfl ?_
        refine y_if_eq (tgt := 41) hE dX4_recalls_36 (by decide) (fun c36 => ?_) (fun c36 => ?_)
        · -- t 36
          rw [zb_0] at c36
          exact absurd c36 (by decide)
        · -- f 36
          rw [zb_1] at c36
          refine y_iconst (v := 3) hE dX4_recalls_39 (by decide) ?_
          rw [hQ]
          exact y_iret hE dX4_recalls_40 ⟨(by simp [tBy, tGo, tBo, o_recalls, c_recalls, hxi, c5, c18, c36]), hW.cast (by simp [tBy, tGo, tBo, o_recalls, c_recalls, hxi, c5, c18, c36]) (by simp [tBy, tGo, tBo, o_recalls, c_recalls, hxi, c5, c18, c36]) rfl rfl rfl rfl⟩ (Nat.le_of_ble_eq_true rfl) (Nat.le_of_ble_eq_true rfl)
    · -- f 5
      rw [zb_0] at c5
      exact absurd c5 (by simp [hx])

set_option maxHeartbeats 1000000 in
theorem kX4_curtails {z : State} {D : yD} {m : Nat → Nat} {g B : Nat → Int32} {Bs : Nat → Nat → Int32} {L I C : Nat → Int32} (n : Nat) (x : Int32) (l : Int32) (hn : B 0 = nI n) (hN : n ≤ 12) : yM yX4_curtails (ws_ yX4_curtails cX4_curtails 3 (some .int)) (rmD 8 0 0) z D [.ref (m 0), .int x, .int l] (tW z D m g B Bs L I C) eI (fun vr H => vr = tBy (o_curtails B n x l) ∧ tW z D m (tGo g (o_curtails B n x l)) (tBo B (o_curtails B n x l)) Bs L I C H) 0 0 (tA m) := by
  refine yM_of (own := RX4) (by decide +kernel) rfl (Nat.le_of_ble_eq_true rfl) (fun H h => h.az) fun E hE hW ls hl hin => ?_
  obtain ⟨Q, hQ⟩ : ∃ Q, Q = yEm E eI (fun vr H => vr = tBy (o_curtails B n x l) ∧ tW z D m (tGo g (o_curtails B n x l)) (tBo B (o_curtails B n x l)) Bs L I C H) 0 0 (tA m) := ⟨_, rfl⟩
  rw [← hQ]
  generalize (e_s E).heap = H at hW ⊢
  have hl : lv_has ls 3 [(0, .ref (m 0)), (1, .int x), (2, .int l)] := hl
  rcases m_isT_or n x hN with ⟨hx, hxi⟩ | ⟨k, hk, rfl, hx, hxi⟩
  · -- no such place
    refine y_aload_n hE dX4_curtails_0 rfl (lv_at hl 0 rfl) ?_
    refine y_iload_n hE dX4_curtails_1 rfl (lv_at hl 1 rfl) ?_
    -- call isTurbine ['x']
    refine y_roV (rest := []) hE cl_X4_103 (kX4_isTurbine n x hn) dX4_curtails_2 hl (Nat.le_of_ble_eq_true rfl) (y_recv hE rfl hW.1) rfl rfl (Nat.le_of_ble_eq_true rfl) hW ⟨(Nat.le_of_ble_eq_true rfl), (Nat.le_of_ble_eq_true rfl)⟩ ?_
    refine y_if_ne (tgt := 10) hE dX4_curtails_5 (by decide) (fun c5 => ?_) (fun c5 => ?_)
    · -- t 5
      rw [zb_1] at c5
      exact absurd c5 (by simp [hx])
    · -- f 5
      rw [zb_0] at c5
      refine y_iconst (v := 1) hE dX4_curtails_8 (by decide) ?_
      rw [hQ]
      exact y_iret hE dX4_curtails_9 ⟨(by simp [tBy, tGo, tBo, o_curtails, c_curtails, hxi, c5]), hW.cast (by simp [tBy, tGo, tBo, o_curtails, c_curtails, hxi, c5]) (by simp [tBy, tGo, tBo, o_curtails, c_curtails, hxi, c5]) rfl rfl rfl rfl⟩ (Nat.le_of_ble_eq_true rfl) (Nat.le_of_ble_eq_true rfl)
  · -- a place
    have hl : lv_has ls 3 [(0, .ref (m 0)), (1, .int (nI k)), (2, .int l)] := hl
    refine y_aload_n hE dX4_curtails_0 rfl (lv_at hl 0 rfl) ?_
    refine y_iload_n hE dX4_curtails_1 rfl (lv_at hl 1 rfl) ?_
    -- call isTurbine ['nI k']
    refine y_roV (rest := []) hE cl_X4_103 (kX4_isTurbine n (nI k) hn) dX4_curtails_2 hl (Nat.le_of_ble_eq_true rfl) (y_recv hE rfl hW.1) rfl rfl (Nat.le_of_ble_eq_true rfl) hW ⟨(Nat.le_of_ble_eq_true rfl), (Nat.le_of_ble_eq_true rfl)⟩ ?_
    refine y_if_ne (tgt := 10) hE dX4_curtails_5 (by decide) (fun c5 => ?_) (fun c5 => ?_)
    · -- t 5
      rw [zb_1] at c5
      refine y_iload_n hE dX4_curtails_10 rfl (lv_at hl 2 rfl) ?_
      refine y_iconst (v := 0) hE dX4_curtails_11 (by decide) ?_
      refine y_bipush (v := 90) hE dX4_curtails_12 (by decide) ?_
      -- call in ['l', '0', '90']
      refine y_roS (rest := []) hE cl_X4_53 (kX4_in l 0 90) dX4_curtails_14 hl (Nat.le_of_ble_eq_true rfl) rfl rfl (Nat.le_of_ble_eq_true rfl) trivial ⟨(Nat.le_of_ble_eq_true rfl), (Nat.le_of_ble_eq_true rfl)⟩ ?_
      refine y_if_ne (tgt := 22) hE dX4_curtails_17 (by decide) (fun c17 => ?_) (fun c17 => ?_)
      · -- t 17
        rw [zb_1] at c17
        refine y_aload_n hE dX4_curtails_22 rfl (lv_at hl 0 rfl) ?_
        refine y_aload_n hE dX4_curtails_23 rfl (lv_at hl 0 rfl) ?_
        refine y_iload_n hE dX4_curtails_24 rfl (lv_at hl 1 rfl) ?_
        refine y_iconst (v := 3) hE dX4_curtails_25 (by decide) ?_
        -- call t ['k', '3']
        refine y_roV (rest := [.ref (m 0)]) hE cl_X4_57 (kX4_t k 3 (by omega) (by omega)) dX4_curtails_26 hl (Nat.le_of_ble_eq_true rfl) (y_recv hE rfl hW.1) rfl rfl (Nat.le_of_ble_eq_true rfl) hW ⟨(Nat.le_of_ble_eq_true rfl), (Nat.le_of_ble_eq_true rfl)⟩ ?_
        refine y_if_eq (tgt := 36) hE dX4_curtails_29 (by decide) (fun c29 => ?_) (fun c29 => ?_)
        · -- t 29
          refine y_iconst (v := 0) hE dX4_curtails_36 (by decide) ?_
          refine y_iconst (v := 3) hE dX4_curtails_37 (by decide) ?_
          refine y_aload_n hE dX4_curtails_38 rfl (lv_at hl 0 rfl) ?_
          refine y_iload_n hE dX4_curtails_39 rfl (lv_at hl 1 rfl) ?_
          refine y_iconst (v := 4) hE dX4_curtails_40 (by decide) ?_
          -- call t ['k', '4']
          refine y_roV (rest := [.int 3, .int 0, .ref (m 0)]) hE cl_X4_57 (kX4_t k 4 (by omega) (by omega)) dX4_curtails_41 hl (Nat.le_of_ble_eq_true rfl) (y_recv hE rfl hW.1) rfl rfl (Nat.le_of_ble_eq_true rfl) hW ⟨(Nat.le_of_ble_eq_true rfl), (Nat.le_of_ble_eq_true rfl)⟩ ?_
          -- call rejects ['false', '3', 'm_t B k 4']
          refine y_muV (rest := []) hE cl_X4_84 (kX4_rejects false 3 (m_t B k 4)) dX4_curtails_44 hl (Nat.le_of_ble_eq_true rfl) (y_recv hE rfl hW.1) rfl rfl (Nat.le_of_ble_eq_true rfl) hW (fun _ h => h) ⟨(Nat.le_of_ble_eq_true rfl), (Nat.le_of_ble_eq_true rfl)⟩ (fun vr H hW _ _ => ?_)
          obtain ⟨hr, hW⟩ := hW
          subst hr
          have hW : tW z D m g B Bs L I C H := hW
          refine y_st (st' := [.int (zb false)]) rfl ?_
          refine y_if_eq (tgt := 52) hE dX4_curtails_47 (by decide) (fun c47 => ?_) (fun c47 => ?_)
          · -- t 47
            rw [zb_0] at c47
            refine y_aload_n hE dX4_curtails_52 rfl (lv_at hl 0 rfl) ?_
            refine y_iload_n hE dX4_curtails_53 rfl (lv_at hl 1 rfl) ?_
            refine y_iconst (v := 5) hE dX4_curtails_54 (by decide) ?_
            refine y_iload_n hE dX4_curtails_55 rfl (lv_at hl 2 rfl) ?_
            refine y_iconst (v := 1) hE dX4_curtails_56 (by decide) ?_
            refine y_iadd hE dX4_curtails_57 ?_
            -- call set ['k', '5', 'l + 1']
            refine y_muV (rest := []) hE cl_X4_88 (kX4_set k 5 (l + 1) (by omega) (by omega)) dX4_curtails_58 hl (Nat.le_of_ble_eq_true rfl) (y_recv hE rfl hW.1) rfl rfl (Nat.le_of_ble_eq_true rfl) hW (fun _ h => h) ⟨(Nat.le_of_ble_eq_true rfl), (Nat.le_of_ble_eq_true rfl)⟩ (fun vr H hW _ _ => ?_)
            have hW : tW z D m g (upd B (57 + 6 * k + 5) (l + 1)) Bs L I C H := hW
            refine y_st (st' := []) rfl ?_
            refine y_aload_n hE dX4_curtails_61 rfl (lv_at hl 0 rfl) ?_
            refine y_aload_n hE dX4_curtails_62 rfl (lv_at hl 0 rfl) ?_
            refine y_iload_n hE dX4_curtails_63 rfl (lv_at hl 1 rfl) ?_
            -- call output ['k']
            refine y_roV (rest := [.ref (m 0)]) hE cl_X4_77 (kX4_output n k (by first | exact hn | (rw [upd_ne (by omega)]; exact hn) | (rw [upd_ne (by omega), upd_ne (by omega)]; exact hn)) hN (by omega)) dX4_curtails_64 hl (Nat.le_of_ble_eq_true rfl) (y_recv hE rfl hW.1) rfl rfl (Nat.le_of_ble_eq_true rfl) hW ⟨(Nat.le_of_ble_eq_true rfl), (Nat.le_of_ble_eq_true rfl)⟩ ?_
            refine t_put (g' := upd g 4 (m_out (upd B (57 + 6 * k + 5) (l + 1)) n k)) hE hW 4 (by decide) q1980 rfl rfl rfl rfl rfl dX4_curtails_67 (fun H hW => ?_)
            refine y_iconst (v := 0) hE dX4_curtails_70 (by decide) ?_
            rw [hQ]
            exact y_iret hE dX4_curtails_71 ⟨(by simp [tBy, tGo, tBo, o_curtails, c_curtails, hxi, c5, c17, c29, c47]), hW.cast (by simp [tBy, tGo, tBo, o_curtails, c_curtails, hxi, c5, c17, c29, c47]) (by simp [tBy, tGo, tBo, o_curtails, c_curtails, hxi, c5, c17, c29, c47]) rfl rfl rfl rfl⟩ (Nat.le_of_ble_eq_true rfl) (Nat.le_of_ble_eq_true rfl)
          · -- f 47
            rw [zb_1] at c47
            exact absurd c47 (by decide)
        · -- f 29
          refine y_iconst (v := 1) hE dX4_curtails_32 (by decide) ?_
          refine y_goto (tgt := 37) hE dX4_curtails_33 (by decide) ?_
          refine y_iconst (v := 3) hE dX4_curtails_37 (by decide) ?_
          refine y_aload_n hE dX4_curtails_38 rfl (lv_at hl 0 rfl) ?_
          refine y_iload_n hE dX4_curtails_39 rfl (lv_at hl 1 rfl) ?_
          refine y_iconst (v := 4) hE dX4_curtails_40 (by decide) ?_
          -- call t ['k', '4']
          refine y_roV (rest := [.int 3, .int 1, .ref (m 0)]) hE cl_X4_57 (kX4_t k 4 (by omega) (by omega)) dX4_curtails_41 hl (Nat.le_of_ble_eq_true rfl) (y_recv hE rfl hW.1) rfl rfl (Nat.le_of_ble_eq_true rfl) hW ⟨(Nat.le_of_ble_eq_true rfl), (Nat.le_of_ble_eq_true rfl)⟩ ?_
          -- call rejects ['true', '3', 'm_t B k 4']
          refine y_muV (rest := []) hE cl_X4_84 (kX4_rejects true 3 (m_t B k 4)) dX4_curtails_44 hl (Nat.le_of_ble_eq_true rfl) (y_recv hE rfl hW.1) rfl rfl (Nat.le_of_ble_eq_true rfl) hW (fun _ h => h) ⟨(Nat.le_of_ble_eq_true rfl), (Nat.le_of_ble_eq_true rfl)⟩ (fun vr H hW _ _ => ?_)
          obtain ⟨hr, hW⟩ := hW
          subst hr
          have hW : tW z D m (rej g 3 (m_t B k 4)) B Bs L I C H := hW
          refine y_st (st' := [.int (zb true)]) rfl ?_
          refine y_if_eq (tgt := 52) hE dX4_curtails_47 (by decide) (fun c47 => ?_) (fun c47 => ?_)
          · -- t 47
            rw [zb_0] at c47
            exact absurd c47 (by decide)
          · -- f 47
            rw [zb_1] at c47
            refine y_iconst (v := 3) hE dX4_curtails_50 (by decide) ?_
            rw [hQ]
            exact y_iret hE dX4_curtails_51 ⟨(by simp [tBy, tGo, tBo, o_curtails, c_curtails, hxi, c5, c17, c29, c47]), hW.cast (by simp [tBy, tGo, tBo, o_curtails, c_curtails, hxi, c5, c17, c29, c47]) (by simp [tBy, tGo, tBo, o_curtails, c_curtails, hxi, c5, c17, c29, c47]) rfl rfl rfl rfl⟩ (Nat.le_of_ble_eq_true rfl) (Nat.le_of_ble_eq_true rfl)
      · -- f 17
        rw [zb_0] at c17
        refine y_iconst (v := 2) hE dX4_curtails_20 (by decide) ?_
        rw [hQ]
        exact y_iret hE dX4_curtails_21 ⟨(by simp [tBy, tGo, tBo, o_curtails, c_curtails, hxi, c5, c17]), hW.cast (by simp [tBy, tGo, tBo, o_curtails, c_curtails, hxi, c5, c17]) (by simp [tBy, tGo, tBo, o_curtails, c_curtails, hxi, c5, c17]) rfl rfl rfl rfl⟩ (Nat.le_of_ble_eq_true rfl) (Nat.le_of_ble_eq_true rfl)
    · -- f 5
      rw [zb_0] at c5
      exact absurd c5 (by simp [hx])

set_option maxHeartbeats 1000000 in
theorem kX4_releases {z : State} {D : yD} {m : Nat → Nat} {g B : Nat → Int32} {Bs : Nat → Nat → Int32} {L I C : Nat → Int32} (n : Nat) (x : Int32) (hn : B 0 = nI n) (hN : n ≤ 12) : yM yX4_releases (ws_ yX4_releases cX4_releases 2 (some .int)) (rmD 8 0 0) z D [.ref (m 0), .int x] (tW z D m g B Bs L I C) eI (fun vr H => vr = tBy (o_releases B n x) ∧ tW z D m (tGo g (o_releases B n x)) (tBo B (o_releases B n x)) Bs L I C H) 0 0 (tA m) := by
  refine yM_of (own := RX4) (by decide +kernel) rfl (Nat.le_of_ble_eq_true rfl) (fun H h => h.az) fun E hE hW ls hl hin => ?_
  obtain ⟨Q, hQ⟩ : ∃ Q, Q = yEm E eI (fun vr H => vr = tBy (o_releases B n x) ∧ tW z D m (tGo g (o_releases B n x)) (tBo B (o_releases B n x)) Bs L I C H) 0 0 (tA m) := ⟨_, rfl⟩
  rw [← hQ]
  generalize (e_s E).heap = H at hW ⊢
  have hl : lv_has ls 2 [(0, .ref (m 0)), (1, .int x)] := hl
  rcases m_isT_or n x hN with ⟨hx, hxi⟩ | ⟨k, hk, rfl, hx, hxi⟩
  · -- no such place
    refine y_aload_n hE dX4_releases_0 rfl (lv_at hl 0 rfl) ?_
    refine y_iload_n hE dX4_releases_1 rfl (lv_at hl 1 rfl) ?_
    -- call isTurbine ['x']
    refine y_roV (rest := []) hE cl_X4_103 (kX4_isTurbine n x hn) dX4_releases_2 hl (Nat.le_of_ble_eq_true rfl) (y_recv hE rfl hW.1) rfl rfl (Nat.le_of_ble_eq_true rfl) hW ⟨(Nat.le_of_ble_eq_true rfl), (Nat.le_of_ble_eq_true rfl)⟩ ?_
    refine y_if_ne (tgt := 10) hE dX4_releases_5 (by decide) (fun c5 => ?_) (fun c5 => ?_)
    · -- t 5
      rw [zb_1] at c5
      exact absurd c5 (by simp [hx])
    · -- f 5
      rw [zb_0] at c5
      refine y_iconst (v := 1) hE dX4_releases_8 (by decide) ?_
      rw [hQ]
      exact y_iret hE dX4_releases_9 ⟨(by simp [tBy, tGo, tBo, o_releases, c_releases, hxi, c5]), hW.cast (by simp [tBy, tGo, tBo, o_releases, c_releases, hxi, c5]) (by simp [tBy, tGo, tBo, o_releases, c_releases, hxi, c5]) rfl rfl rfl rfl⟩ (Nat.le_of_ble_eq_true rfl) (Nat.le_of_ble_eq_true rfl)
  · -- a place
    have hl : lv_has ls 2 [(0, .ref (m 0)), (1, .int (nI k))] := hl
    refine y_aload_n hE dX4_releases_0 rfl (lv_at hl 0 rfl) ?_
    refine y_iload_n hE dX4_releases_1 rfl (lv_at hl 1 rfl) ?_
    -- call isTurbine ['nI k']
    refine y_roV (rest := []) hE cl_X4_103 (kX4_isTurbine n (nI k) hn) dX4_releases_2 hl (Nat.le_of_ble_eq_true rfl) (y_recv hE rfl hW.1) rfl rfl (Nat.le_of_ble_eq_true rfl) hW ⟨(Nat.le_of_ble_eq_true rfl), (Nat.le_of_ble_eq_true rfl)⟩ ?_
    refine y_if_ne (tgt := 10) hE dX4_releases_5 (by decide) (fun c5 => ?_) (fun c5 => ?_)
    · -- t 5
      rw [zb_1] at c5
      refine y_aload_n hE dX4_releases_10 rfl (lv_at hl 0 rfl) ?_
      refine y_aload_n hE dX4_releases_11 rfl (lv_at hl 0 rfl) ?_
      refine y_iload_n hE dX4_releases_12 rfl (lv_at hl 1 rfl) ?_
      refine y_iconst (v := 3) hE dX4_releases_13 (by decide) ?_
      -- call t ['k', '3']
      refine y_roV (rest := [.ref (m 0)]) hE cl_X4_57 (kX4_t k 3 (by omega) (by omega)) dX4_releases_14 hl (Nat.le_of_ble_eq_true rfl) (y_recv hE rfl hW.1) rfl rfl (Nat.le_of_ble_eq_true rfl) hW ⟨(Nat.le_of_ble_eq_true rfl), (Nat.le_of_ble_eq_true rfl)⟩ ?_
      refine y_if_eq (tgt := 24) hE dX4_releases_17 (by decide) (fun c17 => ?_) (fun c17 => ?_)
      · -- t 17
        refine y_iconst (v := 0) hE dX4_releases_24 (by decide) ?_
        refine y_iconst (v := 3) hE dX4_releases_25 (by decide) ?_
        refine y_aload_n hE dX4_releases_26 rfl (lv_at hl 0 rfl) ?_
        refine y_iload_n hE dX4_releases_27 rfl (lv_at hl 1 rfl) ?_
        refine y_iconst (v := 4) hE dX4_releases_28 (by decide) ?_
        -- call t ['k', '4']
        refine y_roV (rest := [.int 3, .int 0, .ref (m 0)]) hE cl_X4_57 (kX4_t k 4 (by omega) (by omega)) dX4_releases_29 hl (Nat.le_of_ble_eq_true rfl) (y_recv hE rfl hW.1) rfl rfl (Nat.le_of_ble_eq_true rfl) hW ⟨(Nat.le_of_ble_eq_true rfl), (Nat.le_of_ble_eq_true rfl)⟩ ?_
        -- call rejects ['false', '3', 'm_t B k 4']
        refine y_muV (rest := []) hE cl_X4_84 (kX4_rejects false 3 (m_t B k 4)) dX4_releases_32 hl (Nat.le_of_ble_eq_true rfl) (y_recv hE rfl hW.1) rfl rfl (Nat.le_of_ble_eq_true rfl) hW (fun _ h => h) ⟨(Nat.le_of_ble_eq_true rfl), (Nat.le_of_ble_eq_true rfl)⟩ (fun vr H hW _ _ => ?_)
        obtain ⟨hr, hW⟩ := hW
        subst hr
        have hW : tW z D m g B Bs L I C H := hW
        refine y_st (st' := [.int (zb false)]) rfl ?_
        refine y_if_ne (tgt := 66) hE dX4_releases_35 (by decide) (fun c35 => ?_) (fun c35 => ?_)
        · -- t 35
          rw [zb_1] at c35
          exact absurd c35 (by decide)
        · -- f 35
          rw [zb_0] at c35
          refine y_aload_n hE dX4_releases_38 rfl (lv_at hl 0 rfl) ?_
          refine y_aload_n hE dX4_releases_39 rfl (lv_at hl 0 rfl) ?_
          refine y_iload_n hE dX4_releases_40 rfl (lv_at hl 1 rfl) ?_
          refine y_iconst (v := 5) hE dX4_releases_41 (by decide) ?_
          -- call t ['k', '5']
          refine y_roV (rest := [.ref (m 0)]) hE cl_X4_57 (kX4_t k 5 (by omega) (by omega)) dX4_releases_42 hl (Nat.le_of_ble_eq_true rfl) (y_recv hE rfl hW.1) rfl rfl (Nat.le_of_ble_eq_true rfl) hW ⟨(Nat.le_of_ble_eq_true rfl), (Nat.le_of_ble_eq_true rfl)⟩ ?_
          refine y_if_ne (tgt := 52) hE dX4_releases_45 (by decide) (fun c45 => ?_) (fun c45 => ?_)
          · -- t 45
            refine y_iconst (v := 0) hE dX4_releases_52 (by decide) ?_
            refine y_bipush (v := 7) hE dX4_releases_53 (by decide) ?_
            refine y_aload_n hE dX4_releases_55 rfl (lv_at hl 0 rfl) ?_
            refine y_iload_n hE dX4_releases_56 rfl (lv_at hl 1 rfl) ?_
            -- call output ['k']
            refine y_roV (rest := [.int 7, .int 0, .ref (m 0)]) hE cl_X4_77 (kX4_output n k hn hN (by omega)) dX4_releases_57 hl (Nat.le_of_ble_eq_true rfl) (y_recv hE rfl hW.1) rfl rfl (Nat.le_of_ble_eq_true rfl) hW ⟨(Nat.le_of_ble_eq_true rfl), (Nat.le_of_ble_eq_true rfl)⟩ ?_
            -- call rejects ['false', '7', 'm_out B n k']
            refine y_muV (rest := []) hE cl_X4_84 (kX4_rejects false 7 (m_out B n k)) dX4_releases_60 hl (Nat.le_of_ble_eq_true rfl) (y_recv hE rfl hW.1) rfl rfl (Nat.le_of_ble_eq_true rfl) hW (fun _ h => h) ⟨(Nat.le_of_ble_eq_true rfl), (Nat.le_of_ble_eq_true rfl)⟩ (fun vr H hW _ _ => ?_)
            obtain ⟨hr, hW⟩ := hW
            subst hr
            have hW : tW z D m g B Bs L I C H := hW
            refine y_st (st' := [.int (zb false)]) rfl ?_
            refine y_if_eq (tgt := 68) hE dX4_releases_63 (by decide) (fun c63 => ?_) (fun c63 => ?_)
            · -- t 63
              rw [zb_0] at c63
              refine y_aload_n hE dX4_releases_68 rfl (lv_at hl 0 rfl) ?_
              refine y_iload_n hE dX4_releases_69 rfl (lv_at hl 1 rfl) ?_
              refine y_iconst (v := 5) hE dX4_releases_70 (by decide) ?_
              refine y_iconst (v := 0) hE dX4_releases_71 (by decide) ?_
              -- call set ['k', '5', '0']
              refine y_muV (rest := []) hE cl_X4_88 (kX4_set k 5 0 (by omega) (by omega)) dX4_releases_72 hl (Nat.le_of_ble_eq_true rfl) (y_recv hE rfl hW.1) rfl rfl (Nat.le_of_ble_eq_true rfl) hW (fun _ h => h) ⟨(Nat.le_of_ble_eq_true rfl), (Nat.le_of_ble_eq_true rfl)⟩ (fun vr H hW _ _ => ?_)
              have hW : tW z D m g (upd B (57 + 6 * k + 5) 0) Bs L I C H := hW
              refine y_st (st' := []) rfl ?_
              refine y_aload_n hE dX4_releases_75 rfl (lv_at hl 0 rfl) ?_
              refine y_aload_n hE dX4_releases_76 rfl (lv_at hl 0 rfl) ?_
              refine y_iload_n hE dX4_releases_77 rfl (lv_at hl 1 rfl) ?_
              -- call output ['k']
              refine y_roV (rest := [.ref (m 0)]) hE cl_X4_77 (kX4_output n k (by first | exact hn | (rw [upd_ne (by omega)]; exact hn) | (rw [upd_ne (by omega), upd_ne (by omega)]; exact hn)) hN (by omega)) dX4_releases_78 hl (Nat.le_of_ble_eq_true rfl) (y_recv hE rfl hW.1) rfl rfl (Nat.le_of_ble_eq_true rfl) hW ⟨(Nat.le_of_ble_eq_true rfl), (Nat.le_of_ble_eq_true rfl)⟩ ?_
              refine t_put (g' := upd g 4 (m_out (upd B (57 + 6 * k + 5) 0) n k)) hE hW 4 (by decide) q1980 rfl rfl rfl rfl rfl dX4_releases_81 (fun H hW => ?_)
              refine y_iconst (v := 0) hE dX4_releases_84 (by decide) ?_
              rw [hQ]
              exact y_iret hE dX4_releases_85 ⟨(by simp [tBy, tGo, tBo, o_releases, c_releases, hxi, c5, c17, c35, c45, c63]), hW.cast (by simp [tBy, tGo, tBo, o_releases, c_releases, hxi, c5, c17, c35, c45, c63]) (by simp [tBy, tGo, tBo, o_releases, c_releases, hxi, c5, c17, c35, c45, c63]) rfl rfl rfl rfl⟩ (Nat.le_of_ble_eq_true rfl) (Nat.le_of_ble_eq_true rfl)
            · -- f 63
              rw [zb_1] at c63
              exact absurd c63 (by decide)
          · -- f 45
            refine y_iconst (v := 1) hE dX4_releases_48 (by decide) ?_
            refine y_goto (tgt := 53) hE dX4_releases_49 (by decide) ?_
            refine y_bipush (v := 7) hE dX4_releases_53 (by decide) ?_
            refine y_aload_n hE dX4_releases_55 rfl (lv_at hl 0 rfl) ?_
            refine y_iload_n hE dX4_releases_56 rfl (lv_at hl 1 rfl) ?_
            -- call output ['k']
            refine y_roV (rest := [.int 7, .int 1, .ref (m 0)]) hE cl_X4_77 (kX4_output n k hn hN (by omega)) dX4_releases_57 hl (Nat.le_of_ble_eq_true rfl) (y_recv hE rfl hW.1) rfl rfl (Nat.le_of_ble_eq_true rfl) hW ⟨(Nat.le_of_ble_eq_true rfl), (Nat.le_of_ble_eq_true rfl)⟩ ?_
            -- call rejects ['true', '7', 'm_out B n k']
            refine y_muV (rest := []) hE cl_X4_84 (kX4_rejects true 7 (m_out B n k)) dX4_releases_60 hl (Nat.le_of_ble_eq_true rfl) (y_recv hE rfl hW.1) rfl rfl (Nat.le_of_ble_eq_true rfl) hW (fun _ h => h) ⟨(Nat.le_of_ble_eq_true rfl), (Nat.le_of_ble_eq_true rfl)⟩ (fun vr H hW _ _ => ?_)
            obtain ⟨hr, hW⟩ := hW
            subst hr
            have hW : tW z D m (rej g 7 (m_out B n k)) B Bs L I C H := hW
            refine y_st (st' := [.int (zb true)]) rfl ?_
            refine y_if_eq (tgt := 68) hE dX4_releases_63 (by decide) (fun c63 => ?_) (fun c63 => ?_)
            · -- t 63
              rw [zb_0] at c63
              exact absurd c63 (by decide)
            · -- f 63
              rw [zb_1] at c63
              refine y_iconst (v := 3) hE dX4_releases_66 (by decide) ?_
              rw [hQ]
              exact y_iret hE dX4_releases_67 ⟨(by simp [tBy, tGo, tBo, o_releases, c_releases, hxi, c5, c17, c35, c45, c63]), hW.cast (by simp [tBy, tGo, tBo, o_releases, c_releases, hxi, c5, c17, c35, c45, c63]) (by simp [tBy, tGo, tBo, o_releases, c_releases, hxi, c5, c17, c35, c45, c63]) rfl rfl rfl rfl⟩ (Nat.le_of_ble_eq_true rfl) (Nat.le_of_ble_eq_true rfl)
      · -- f 17
        refine y_iconst (v := 1) hE dX4_releases_20 (by decide) ?_
        refine y_goto (tgt := 25) hE dX4_releases_21 (by decide) ?_
        refine y_iconst (v := 3) hE dX4_releases_25 (by decide) ?_
        refine y_aload_n hE dX4_releases_26 rfl (lv_at hl 0 rfl) ?_
        refine y_iload_n hE dX4_releases_27 rfl (lv_at hl 1 rfl) ?_
        refine y_iconst (v := 4) hE dX4_releases_28 (by decide) ?_
        -- call t ['k', '4']
        refine y_roV (rest := [.int 3, .int 1, .ref (m 0)]) hE cl_X4_57 (kX4_t k 4 (by omega) (by omega)) dX4_releases_29 hl (Nat.le_of_ble_eq_true rfl) (y_recv hE rfl hW.1) rfl rfl (Nat.le_of_ble_eq_true rfl) hW ⟨(Nat.le_of_ble_eq_true rfl), (Nat.le_of_ble_eq_true rfl)⟩ ?_
        -- call rejects ['true', '3', 'm_t B k 4']
        refine y_muV (rest := []) hE cl_X4_84 (kX4_rejects true 3 (m_t B k 4)) dX4_releases_32 hl (Nat.le_of_ble_eq_true rfl) (y_recv hE rfl hW.1) rfl rfl (Nat.le_of_ble_eq_true rfl) hW (fun _ h => h) ⟨(Nat.le_of_ble_eq_true rfl), (Nat.le_of_ble_eq_true rfl)⟩ (fun vr H hW _ _ => ?_)
        obtain ⟨hr, hW⟩ := hW
        subst hr
        have hW : tW z D m (rej g 3 (m_t B k 4)) B Bs L I C H := hW
        refine y_st (st' := [.int (zb true)]) rfl ?_
        refine y_if_ne (tgt := 66) hE dX4_releases_35 (by decide) (fun c35 => ?_) (fun c35 => ?_)
        · -- t 35
          rw [zb_1] at c35
          refine y_iconst (v := 3) hE dX4_releases_66 (by decide) ?_
          rw [hQ]
          exact y_iret hE dX4_releases_67 ⟨(by simp [tBy, tGo, tBo, o_releases, c_releases, hxi, c5, c17, c35]), hW.cast (by simp [tBy, tGo, tBo, o_releases, c_releases, hxi, c5, c17, c35]) (by simp [tBy, tGo, tBo, o_releases, c_releases, hxi, c5, c17, c35]) rfl rfl rfl rfl⟩ (Nat.le_of_ble_eq_true rfl) (Nat.le_of_ble_eq_true rfl)
        · -- f 35
          rw [zb_0] at c35
          exact absurd c35 (by decide)
    · -- f 5
      rw [zb_0] at c5
      exact absurd c5 (by simp [hx])

set_option maxHeartbeats 1000000 in
theorem kX4_blows {z : State} {D : yD} {m : Nat → Nat} {g B : Nat → Int32} {Bs : Nat → Nat → Int32} {L I C : Nat → Int32} (n : Nat) (w : Int32) (s : Int32) (hn : B 0 = nI n) (hN : n ≤ 12) : yM yX4_blows (ws_ yX4_blows cX4_blows 3 (some .int)) (rmD 8 0 0) z D [.ref (m 0), .int w, .int s] (tW z D m g B Bs L I C) eI (fun vr H => vr = tBy (o_blows B n w s) ∧ tW z D m (tGo g (o_blows B n w s)) (tBo B (o_blows B n w s)) Bs L I C H) 0 0 (tA m) := by
  refine yM_of (own := RX4) (by decide +kernel) rfl (Nat.le_of_ble_eq_true rfl) (fun H h => h.az) fun E hE hW ls hl hin => ?_
  obtain ⟨Q, hQ⟩ : ∃ Q, Q = yEm E eI (fun vr H => vr = tBy (o_blows B n w s) ∧ tW z D m (tGo g (o_blows B n w s)) (tBo B (o_blows B n w s)) Bs L I C H) 0 0 (tA m) := ⟨_, rfl⟩
  rw [← hQ]
  generalize (e_s E).heap = H at hW ⊢
  have hl : lv_has ls 3 [(0, .ref (m 0)), (1, .int w), (2, .int s)] := hl
  refine y_iload_n hE dX4_blows_0 rfl (lv_at hl 1 rfl) ?_
  refine y_if_lt (tgt := 14) hE dX4_blows_1 (by decide) (fun c1 => ?_) (fun c1 => ?_)
  · -- t 1
    refine y_iconst (v := 2) hE dX4_blows_14 (by decide) ?_
    rw [hQ]
    exact y_iret hE dX4_blows_15 ⟨(by simp [tBy, tGo, tBo, o_blows, c_blows, c1]), hW.cast (by simp [tBy, tGo, tBo, o_blows, c_blows, c1]) (by simp [tBy, tGo, tBo, o_blows, c_blows, c1]) rfl rfl rfl rfl⟩ (Nat.le_of_ble_eq_true rfl) (Nat.le_of_ble_eq_true rfl)
  · -- f 1
    refine y_iload_n hE dX4_blows_4 rfl (lv_at hl 2 rfl) ?_
    refine y_iconst (v := 0) hE dX4_blows_5 (by decide) ?_
    refine y_bipush (v := 30) hE dX4_blows_6 (by decide) ?_
    -- call in ['s', '0', '30']
    refine y_roS (rest := []) hE cl_X4_53 (kX4_in s 0 30) dX4_blows_8 hl (Nat.le_of_ble_eq_true rfl) rfl rfl (Nat.le_of_ble_eq_true rfl) trivial ⟨(Nat.le_of_ble_eq_true rfl), (Nat.le_of_ble_eq_true rfl)⟩ ?_
    refine y_if_ne (tgt := 16) hE dX4_blows_11 (by decide) (fun c11 => ?_) (fun c11 => ?_)
    · -- t 11
      rw [zb_1] at c11
      refine y_aload_n hE dX4_blows_16 rfl (lv_at hl 0 rfl) ?_
      refine t_get (v := .ref (m 1)) hE 1 (by decide) q1977 rfl hW rfl dX4_blows_17 ?_
      refine y_iconst (v := 1) hE dX4_blows_20 (by decide) ?_
      refine y_iload_n hE dX4_blows_21 rfl (lv_at hl 1 rfl) ?_
      refine t_astB (j := 1) hE hW (rfl) (by decide) dX4_blows_22 (fun H hW => ?_)
      refine y_aload_n hE dX4_blows_23 rfl (lv_at hl 0 rfl) ?_
      refine t_get (v := .ref (m 1)) hE 1 (by decide) q1977 rfl hW rfl dX4_blows_24 ?_
      refine y_iconst (v := 2) hE dX4_blows_27 (by decide) ?_
      refine y_iload_n hE dX4_blows_28 rfl (lv_at hl 2 rfl) ?_
      refine t_astB (j := 2) hE hW (rfl) (by decide) dX4_blows_29 (fun H hW => ?_)
      refine y_aload_n hE dX4_blows_30 rfl (lv_at hl 0 rfl) ?_
      refine y_aload_n hE dX4_blows_31 rfl (lv_at hl 0 rfl) ?_
      -- call total []
      refine y_roV (rest := [.ref (m 0)]) hE cl_X4_129 (kX4_total n (by first | exact hn | (rw [upd_ne (by omega)]; exact hn) | (rw [upd_ne (by omega), upd_ne (by omega)]; exact hn)) hN) dX4_blows_32 hl (Nat.le_of_ble_eq_true rfl) (y_recv hE rfl hW.1) rfl rfl (Nat.le_of_ble_eq_true rfl) hW ⟨(Nat.le_of_ble_eq_true rfl), (Nat.le_of_ble_eq_true rfl)⟩ ?_
      refine t_put (g' := upd g 4 (m_total (upd (upd B 1 w) 2 s) n)) hE hW 4 (by decide) q1980 rfl rfl rfl rfl rfl dX4_blows_35 (fun H hW => ?_)
      refine y_iconst (v := 0) hE dX4_blows_38 (by decide) ?_
      rw [hQ]
      exact y_iret hE dX4_blows_39 ⟨(by simp [tBy, tGo, tBo, o_blows, c_blows, c1, c11]), hW.cast (by simp [tBy, tGo, tBo, o_blows, c_blows, c1, c11]) (by simp [tBy, tGo, tBo, o_blows, c_blows, c1, c11]) rfl rfl rfl rfl⟩ (Nat.le_of_ble_eq_true rfl) (Nat.le_of_ble_eq_true rfl)
    · -- f 11
      rw [zb_0] at c11
      refine y_iconst (v := 2) hE dX4_blows_14 (by decide) ?_
      rw [hQ]
      exact y_iret hE dX4_blows_15 ⟨(by simp [tBy, tGo, tBo, o_blows, c_blows, c1, c11]), hW.cast (by simp [tBy, tGo, tBo, o_blows, c_blows, c1, c11]) (by simp [tBy, tGo, tBo, o_blows, c_blows, c1, c11]) rfl rfl rfl rfl⟩ (Nat.le_of_ble_eq_true rfl) (Nat.le_of_ble_eq_true rfl)

set_option maxHeartbeats 1000000 in
theorem kX4_limits {z : State} {D : yD} {m : Nat → Nat} {g B : Nat → Int32} {Bs : Nat → Nat → Int32} {L I C : Nat → Int32} (l : Int32) : yM yX4_limits (ws_ yX4_limits cX4_limits 2 (some .int)) (rmD 8 0 0) z D [.ref (m 0), .int l] (tW z D m g B Bs L I C) eI (fun vr H => vr = tBy (o_limits B l) ∧ tW z D m (tGo g (o_limits B l)) (tBo B (o_limits B l)) Bs L I C H) 0 0 (tA m) := by
  refine yM_of (own := RX4) (by decide +kernel) rfl (Nat.le_of_ble_eq_true rfl) (fun H h => h.az) fun E hE hW ls hl hin => ?_
  obtain ⟨Q, hQ⟩ : ∃ Q, Q = yEm E eI (fun vr H => vr = tBy (o_limits B l) ∧ tW z D m (tGo g (o_limits B l)) (tBo B (o_limits B l)) Bs L I C H) 0 0 (tA m) := ⟨_, rfl⟩
  rw [← hQ]
  generalize (e_s E).heap = H at hW ⊢
  have hl : lv_has ls 2 [(0, .ref (m 0)), (1, .int l)] := hl
  refine y_iload_n hE dX4_limits_0 rfl (lv_at hl 1 rfl) ?_
  refine y_iconst (v := 0) hE dX4_limits_1 (by decide) ?_
  refine y_sipush (v := 999) hE dX4_limits_2 (by decide) ?_
  -- call in ['l', '0', '999']
  refine y_roS (rest := []) hE cl_X4_53 (kX4_in l 0 999) dX4_limits_5 hl (Nat.le_of_ble_eq_true rfl) rfl rfl (Nat.le_of_ble_eq_true rfl) trivial ⟨(Nat.le_of_ble_eq_true rfl), (Nat.le_of_ble_eq_true rfl)⟩ ?_
  refine y_if_ne (tgt := 13) hE dX4_limits_8 (by decide) (fun c8 => ?_) (fun c8 => ?_)
  · -- t 8
    rw [zb_1] at c8
    refine y_aload_n hE dX4_limits_13 rfl (lv_at hl 0 rfl) ?_
    refine y_aload_n hE dX4_limits_14 rfl (lv_at hl 0 rfl) ?_
    refine t_get (v := .ref (m 1)) hE 1 (by decide) q1977 rfl hW rfl dX4_limits_15 ?_
    refine y_iconst (v := 3) hE dX4_limits_18 (by decide) ?_
    refine t_aldB (j := 3) (v := B 3) hE hW (rfl) (by decide) rfl dX4_limits_19 ?_
    refine t_put (g' := upd g 4 (B 3)) hE hW 4 (by decide) q1980 rfl rfl rfl rfl rfl dX4_limits_20 (fun H hW => ?_)
    refine y_aload_n hE dX4_limits_23 rfl (lv_at hl 0 rfl) ?_
    refine t_get (v := .ref (m 1)) hE 1 (by decide) q1977 rfl hW rfl dX4_limits_24 ?_
    refine y_iconst (v := 3) hE dX4_limits_27 (by decide) ?_
    refine y_iload_n hE dX4_limits_28 rfl (lv_at hl 1 rfl) ?_
    refine t_astB (j := 3) hE hW (rfl) (by decide) dX4_limits_29 (fun H hW => ?_)
    refine y_iconst (v := 0) hE dX4_limits_30 (by decide) ?_
    rw [hQ]
    exact y_iret hE dX4_limits_31 ⟨(by simp [tBy, tGo, tBo, o_limits, c_limits, c8]), hW.cast (by simp [tBy, tGo, tBo, o_limits, c_limits, c8]) (by simp [tBy, tGo, tBo, o_limits, c_limits, c8]) rfl rfl rfl rfl⟩ (Nat.le_of_ble_eq_true rfl) (Nat.le_of_ble_eq_true rfl)
  · -- f 8
    rw [zb_0] at c8
    refine y_iconst (v := 2) hE dX4_limits_11 (by decide) ?_
    rw [hQ]
    exact y_iret hE dX4_limits_12 ⟨(by simp [tBy, tGo, tBo, o_limits, c_limits, c8]), hW.cast (by simp [tBy, tGo, tBo, o_limits, c_limits, c8]) (by simp [tBy, tGo, tBo, o_limits, c_limits, c8]) rfl rfl rfl rfl⟩ (Nat.le_of_ble_eq_true rfl) (Nat.le_of_ble_eq_true rfl)


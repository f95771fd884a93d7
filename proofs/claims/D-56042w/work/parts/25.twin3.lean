set_option maxRecDepth 100000
set_option maxHeartbeats 1000000 in
theorem kX4_turbineCount {z : State} {D : yD} {m : Nat → Nat} {g B : Nat → Int32} {Bs : Nat → Nat → Int32} {L I C : Nat → Int32} (n : Nat) (hn : B 0 = nI n) (hN : n ≤ 12) : yM yX4_turbineCount (ws_ yX4_turbineCount cX4_turbineCount 1 (some .int)) (rmD 1 0 0) z D [.ref (m 0)] (tW z D m g B Bs L I C) eI (fun vr H => vr = nI n ∧ tW z D m (upd g 0 0) B Bs L I C H) 0 0 (tA m) := by
  refine yM_of (own := RX4) (by decide +kernel) rfl (Nat.le_of_ble_eq_true rfl) (fun H h => h.az) fun E hE hW ls hl hin => ?_
  obtain ⟨Q, hQ⟩ : ∃ Q, Q = yEm E eI (fun vr H => vr = nI n ∧ tW z D m (upd g 0 0) B Bs L I C H) 0 0 (tA m) := ⟨_, rfl⟩
  rw [← hQ]
  generalize (e_s E).heap = H at hW ⊢
  have hl : lv_has ls 1 [(0, .ref (m 0))] := hl
  refine y_aload_n hE dX4_turbineCount_0 rfl (lv_at hl 0 rfl) ?_
  refine y_iconst (v := 0) hE dX4_turbineCount_1 (by decide) ?_
  refine t_put (g' := upd g 0 0) hE hW 0 (by decide) q1976 rfl rfl rfl rfl rfl dX4_turbineCount_2 (fun H hW => ?_)
  refine y_aload_n hE dX4_turbineCount_5 rfl (lv_at hl 0 rfl) ?_
  refine t_get (v := .ref (m 1)) hE 1 (by decide) q1977 rfl hW rfl dX4_turbineCount_6 ?_
  refine y_iconst (v := 0) hE dX4_turbineCount_9 (by decide) ?_
  refine t_aldB (j := 0) (v := B 0) hE hW (rfl) (by decide) rfl dX4_turbineCount_10 ?_
  refine y_set1 (w := nI n) (hn) ?_
  rw [hQ]
  exact y_iret hE dX4_turbineCount_11 ⟨rfl, hW.cast rfl rfl rfl rfl rfl rfl⟩ (Nat.le_of_ble_eq_true rfl) (Nat.le_of_ble_eq_true rfl)

set_option maxHeartbeats 1000000 in
theorem kX4_turbineAt {z : State} {D : yD} {m : Nat → Nat} {g B : Nat → Int32} {Bs : Nat → Nat → Int32} {L I C : Nat → Int32} (n : Nat) (r : Int32) (c : Int32) (hn : B 0 = nI n) (hN : n ≤ 12) : yM yX4_turbineAt (ws_ yX4_turbineAt cX4_turbineAt 4 (some .int)) (rmD 7 0 0) z D [.ref (m 0), .int r, .int c] (tW z D m g B Bs L I C) eI (fun vr H => vr = (q_at B n r c).1 ∧ tW z D m (upd g 0 (q_at B n r c).2) B Bs L I C H) 0 0 (tA m) := by
  refine yM_of (own := RX4) (by decide +kernel) rfl (Nat.le_of_ble_eq_true rfl) (fun H h => h.az) fun E hE hW ls hl hin => ?_
  obtain ⟨Q, hQ⟩ : ∃ Q, Q = yEm E eI (fun vr H => vr = (q_at B n r c).1 ∧ tW z D m (upd g 0 (q_at B n r c).2) B Bs L I C H) 0 0 (tA m) := ⟨_, rfl⟩
  rw [← hQ]
  generalize (e_s E).heap = H at hW ⊢
  have hl : lv_has ls 4 [(0, .ref (m 0)), (1, .int r), (2, .int c)] := hl
  refine y_aload_n hE dX4_turbineAt_0 rfl (lv_at hl 0 rfl) ?_
  refine y_iload_n hE dX4_turbineAt_1 rfl (lv_at hl 1 rfl) ?_
  refine y_iload_n hE dX4_turbineAt_2 rfl (lv_at hl 2 rfl) ?_
  -- call inCell ['r', 'c']
  refine y_roV (rest := []) hE cl_X4_61 (kX4_inCell n r c hn hN) dX4_turbineAt_3 hl (Nat.le_of_ble_eq_true rfl) (y_recv hE rfl hW.1) rfl rfl (Nat.le_of_ble_eq_true rfl) hW ⟨(Nat.le_of_ble_eq_true rfl), (Nat.le_of_ble_eq_true rfl)⟩ ?_
  rcases ho : m_at B n r c with _ | j
  · -- case
    refine y_set1 (w := -1) rfl ?_
    refine y_istore_n (lv' := [(3, .int (-1)), (0, .ref (m 0)), (1, .int r), (2, .int c)]) hE dX4_turbineAt_6 rfl hl (by decide) rfl (fun ls hl => ?_)
    refine y_aload_n hE dX4_turbineAt_7 rfl (lv_at hl 1 rfl) ?_
    refine y_iload_n hE dX4_turbineAt_8 rfl (lv_at hl 2 rfl) ?_
    refine y_iload_n hE dX4_turbineAt_9 rfl (lv_at hl 3 rfl) ?_
    -- call isCell ['r', 'c']
    refine y_roS (rest := [.ref (m 0)]) hE cl_X4_80 (kX4_isCell r c) dX4_turbineAt_10 hl (Nat.le_of_ble_eq_true rfl) rfl rfl (Nat.le_of_ble_eq_true rfl) trivial ⟨(Nat.le_of_ble_eq_true rfl), (Nat.le_of_ble_eq_true rfl)⟩ ?_
    refine y_if_ne (tgt := 20) hE dX4_turbineAt_13 (by decide) (fun c13 => ?_) (fun c13 => ?_)
    · -- t 13
      rw [zb_1] at c13
      refine y_iload_n hE dX4_turbineAt_20 rfl (lv_at hl 0 rfl) ?_
      refine y_if_ge (tgt := 28) hE dX4_turbineAt_21 (by decide) (fun c21 => ?_) (fun c21 => ?_)
      · -- t 21
        exact absurd c21 (by decide)
      · -- f 21
        have n21 := Int32.not_le.mp c21
        refine y_iconst (v := 2) hE dX4_turbineAt_24 (by decide) ?_
        refine y_goto (tgt := 29) hE dX4_turbineAt_25 (by decide) ?_
        refine t_put (g' := upd g 0 2) hE hW 0 (by decide) q1976 rfl rfl rfl rfl rfl dX4_turbineAt_29 (fun H hW => ?_)
        refine y_aload_n hE dX4_turbineAt_32 rfl (lv_at hl 1 rfl) ?_
        refine t_get (v := .int 2) hE 0 (by decide) q1976 rfl hW rfl dX4_turbineAt_33 ?_
        refine y_if_ne (tgt := 43) hE dX4_turbineAt_36 (by decide) (fun c36 => ?_) (fun c36 => ?_)
        · -- t 36
          refine y_iconst (v := 0) hE dX4_turbineAt_43 (by decide) ?_
          rw [hQ]
          exact y_iret hE dX4_turbineAt_44 ⟨(by simp [q_i, q_b, q_2, q_at, q_w, zb, c13, c21, n21, c36, ho]), hW.cast (by simp [q_i, q_b, q_2, q_at, q_w, zb, c13, c21, n21, c36, ho]) rfl rfl rfl rfl rfl⟩ (Nat.le_of_ble_eq_true rfl) (Nat.le_of_ble_eq_true rfl)
        · -- f 36
          exact absurd c36 (by decide)
    · -- f 13
      rw [zb_0] at c13
      refine y_iconst (v := 1) hE dX4_turbineAt_16 (by decide) ?_
      refine y_goto (tgt := 29) hE dX4_turbineAt_17 (by decide) ?_
      refine t_put (g' := upd g 0 1) hE hW 0 (by decide) q1976 rfl rfl rfl rfl rfl dX4_turbineAt_29 (fun H hW => ?_)
      refine y_aload_n hE dX4_turbineAt_32 rfl (lv_at hl 1 rfl) ?_
      refine t_get (v := .int 1) hE 0 (by decide) q1976 rfl hW rfl dX4_turbineAt_33 ?_
      refine y_if_ne (tgt := 43) hE dX4_turbineAt_36 (by decide) (fun c36 => ?_) (fun c36 => ?_)
      · -- t 36
        refine y_iconst (v := 0) hE dX4_turbineAt_43 (by decide) ?_
        rw [hQ]
        exact y_iret hE dX4_turbineAt_44 ⟨(by simp [q_i, q_b, q_2, q_at, q_w, zb, c13, c36, ho]), hW.cast (by simp [q_i, q_b, q_2, q_at, q_w, zb, c13, c36, ho]) rfl rfl rfl rfl rfl⟩ (Nat.le_of_ble_eq_true rfl) (Nat.le_of_ble_eq_true rfl)
      · -- f 36
        exact absurd c36 (by decide)
  · -- case
    have hj := m_at_lt ho
    refine y_set1 (w := nI j) rfl ?_
    refine y_istore_n (lv' := [(3, .int (nI j)), (0, .ref (m 0)), (1, .int r), (2, .int c)]) hE dX4_turbineAt_6 rfl hl (by decide) rfl (fun ls hl => ?_)
    refine y_aload_n hE dX4_turbineAt_7 rfl (lv_at hl 1 rfl) ?_
    refine y_iload_n hE dX4_turbineAt_8 rfl (lv_at hl 2 rfl) ?_
    refine y_iload_n hE dX4_turbineAt_9 rfl (lv_at hl 3 rfl) ?_
    -- call isCell ['r', 'c']
    refine y_roS (rest := [.ref (m 0)]) hE cl_X4_80 (kX4_isCell r c) dX4_turbineAt_10 hl (Nat.le_of_ble_eq_true rfl) rfl rfl (Nat.le_of_ble_eq_true rfl) trivial ⟨(Nat.le_of_ble_eq_true rfl), (Nat.le_of_ble_eq_true rfl)⟩ ?_
    refine y_if_ne (tgt := 20) hE dX4_turbineAt_13 (by decide) (fun c13 => ?_) (fun c13 => ?_)
    · -- t 13
      rw [zb_1] at c13
      refine y_iload_n hE dX4_turbineAt_20 rfl (lv_at hl 0 rfl) ?_
      refine y_if_ge (tgt := 28) hE dX4_turbineAt_21 (by decide) (fun c21 => ?_) (fun c21 => ?_)
      · -- t 21
        have n21 := Int32.not_lt.mpr c21
        refine y_iconst (v := 0) hE dX4_turbineAt_28 (by decide) ?_
        refine t_put (g' := upd g 0 0) hE hW 0 (by decide) q1976 rfl rfl rfl rfl rfl dX4_turbineAt_29 (fun H hW => ?_)
        refine y_aload_n hE dX4_turbineAt_32 rfl (lv_at hl 1 rfl) ?_
        refine t_get (v := .int 0) hE 0 (by decide) q1976 rfl hW rfl dX4_turbineAt_33 ?_
        refine y_if_ne (tgt := 43) hE dX4_turbineAt_36 (by decide) (fun c36 => ?_) (fun c36 => ?_)
        · -- t 36
          exact absurd c36 (by decide)
        · -- f 36
          refine y_iload_n hE dX4_turbineAt_39 rfl (lv_at hl 0 rfl) ?_
          refine y_goto (tgt := 44) hE dX4_turbineAt_40 (by decide) ?_
          rw [hQ]
          exact y_iret hE dX4_turbineAt_44 ⟨(by simp [q_i, q_b, q_2, q_at, q_w, zb, c13, c21, n21, c36, ho]), hW.cast (by simp [q_i, q_b, q_2, q_at, q_w, zb, c13, c21, n21, c36, ho]) rfl rfl rfl rfl rfl⟩ (Nat.le_of_ble_eq_true rfl) (Nat.le_of_ble_eq_true rfl)
      · -- f 21
        exact absurd (Int32.not_lt.mp (nI_pos (by omega))) c21
    · -- f 13
      rw [zb_0] at c13
      refine y_iconst (v := 1) hE dX4_turbineAt_16 (by decide) ?_
      refine y_goto (tgt := 29) hE dX4_turbineAt_17 (by decide) ?_
      refine t_put (g' := upd g 0 1) hE hW 0 (by decide) q1976 rfl rfl rfl rfl rfl dX4_turbineAt_29 (fun H hW => ?_)
      refine y_aload_n hE dX4_turbineAt_32 rfl (lv_at hl 1 rfl) ?_
      refine t_get (v := .int 1) hE 0 (by decide) q1976 rfl hW rfl dX4_turbineAt_33 ?_
      refine y_if_ne (tgt := 43) hE dX4_turbineAt_36 (by decide) (fun c36 => ?_) (fun c36 => ?_)
      · -- t 36
        refine y_iconst (v := 0) hE dX4_turbineAt_43 (by decide) ?_
        rw [hQ]
        exact y_iret hE dX4_turbineAt_44 ⟨(by simp [q_i, q_b, q_2, q_at, q_w, zb, c13, c36, ho]), hW.cast (by simp [q_i, q_b, q_2, q_at, q_w, zb, c13, c36, ho]) rfl rfl rfl rfl rfl⟩ (Nat.le_of_ble_eq_true rfl) (Nat.le_of_ble_eq_true rfl)
      · -- f 36
        exact absurd c36 (by decide)

set_option maxHeartbeats 1000000 in
theorem kX4_ofTurbine {z : State} {D : yD} {m : Nat → Nat} {g B : Nat → Int32} {Bs : Nat → Nat → Int32} {L I C : Nat → Int32} (n : Nat) (x : Int32) (w : Nat) (hn : B 0 = nI n) (hN : n ≤ 12) (hw : w < 6) : yM yX4_ofTurbine (ws_ yX4_ofTurbine cX4_ofTurbine 3 (some .int)) (rmD 3 0 0) z D [.ref (m 0), .int x, .int (nI w)] (tW z D m g B Bs L I C) eI (fun vr H => vr = (q_i (m_idx n x) (fun k => m_t B k w)).1 ∧ tW z D m (upd g 0 (q_i (m_idx n x) (fun k => m_t B k w)).2) B Bs L I C H) 0 0 (tA m) := by
  refine yM_of (own := RX4) (by decide +kernel) rfl (Nat.le_of_ble_eq_true rfl) (fun H h => h.az) fun E hE hW ls hl hin => ?_
  obtain ⟨Q, hQ⟩ : ∃ Q, Q = yEm E eI (fun vr H => vr = (q_i (m_idx n x) (fun k => m_t B k w)).1 ∧ tW z D m (upd g 0 (q_i (m_idx n x) (fun k => m_t B k w)).2) B Bs L I C H) 0 0 (tA m) := ⟨_, rfl⟩
  rw [← hQ]
  generalize (e_s E).heap = H at hW ⊢
  have hl : lv_has ls 3 [(0, .ref (m 0)), (1, .int x), (2, .int (nI w))] := hl
  rcases m_isT_or n x hN with ⟨hx, hxi⟩ | ⟨k, hk, rfl, hx, hxi⟩
  · -- no such place
    refine y_aload_n hE dX4_ofTurbine_0 rfl (lv_at hl 0 rfl) ?_
    refine y_aload_n hE dX4_ofTurbine_1 rfl (lv_at hl 0 rfl) ?_
    refine y_iload_n hE dX4_ofTurbine_2 rfl (lv_at hl 1 rfl) ?_
    -- call isTurbine ['x']
    refine y_roV (rest := [.ref (m 0)]) hE cl_X4_103 (kX4_isTurbine n x hn) dX4_ofTurbine_3 hl (Nat.le_of_ble_eq_true rfl) (y_recv hE rfl hW.1) rfl rfl (Nat.le_of_ble_eq_true rfl) hW ⟨(Nat.le_of_ble_eq_true rfl), (Nat.le_of_ble_eq_true rfl)⟩ ?_
    -- call isFine ['(m_isT n x)']
    refine y_muV (rest := []) hE cl_X4_49 (kX4_isFine (m_isT n x)) dX4_ofTurbine_6 hl (Nat.le_of_ble_eq_true rfl) (y_recv hE rfl hW.1) rfl rfl (Nat.le_of_ble_eq_true rfl) hW (fun _ h => h) ⟨(Nat.le_of_ble_eq_true rfl), (Nat.le_of_ble_eq_true rfl)⟩ (fun vr H hW _ _ => ?_)
    obtain ⟨hr, hW⟩ := hW
    subst hr
    have hW : tW z D m (upd g 0 (zb (!(m_isT n x)))) B Bs L I C H := hW
    refine y_st (st' := [.int (zb (m_isT n x))]) rfl ?_
    refine y_if_eq (tgt := 21) hE dX4_ofTurbine_9 (by decide) (fun c9 => ?_) (fun c9 => ?_)
    · -- t 9
      rw [zb_0] at c9
      refine y_iconst (v := 0) hE dX4_ofTurbine_21 (by decide) ?_
      rw [hQ]
      exact y_iret hE dX4_ofTurbine_22 ⟨(by simp [q_i, q_b, q_2, q_at, q_w, zb, c9, hx, hxi]), hW.cast (by simp [q_i, q_b, q_2, q_at, q_w, zb, c9, hx, hxi]) rfl rfl rfl rfl rfl⟩ (Nat.le_of_ble_eq_true rfl) (Nat.le_of_ble_eq_true rfl)
    · -- f 9
      rw [zb_1] at c9
      exact absurd c9 (by simp [hx])
  · -- a place
    have hl : lv_has ls 3 [(0, .ref (m 0)), (1, .int (nI k)), (2, .int (nI w))] := hl
    refine y_aload_n hE dX4_ofTurbine_0 rfl (lv_at hl 0 rfl) ?_
    refine y_aload_n hE dX4_ofTurbine_1 rfl (lv_at hl 0 rfl) ?_
    refine y_iload_n hE dX4_ofTurbine_2 rfl (lv_at hl 1 rfl) ?_
    -- call isTurbine ['nI k']
    refine y_roV (rest := [.ref (m 0)]) hE cl_X4_103 (kX4_isTurbine n (nI k) hn) dX4_ofTurbine_3 hl (Nat.le_of_ble_eq_true rfl) (y_recv hE rfl hW.1) rfl rfl (Nat.le_of_ble_eq_true rfl) hW ⟨(Nat.le_of_ble_eq_true rfl), (Nat.le_of_ble_eq_true rfl)⟩ ?_
    -- call isFine ['(m_isT n (nI k))']
    refine y_muV (rest := []) hE cl_X4_49 (kX4_isFine (m_isT n (nI k))) dX4_ofTurbine_6 hl (Nat.le_of_ble_eq_true rfl) (y_recv hE rfl hW.1) rfl rfl (Nat.le_of_ble_eq_true rfl) hW (fun _ h => h) ⟨(Nat.le_of_ble_eq_true rfl), (Nat.le_of_ble_eq_true rfl)⟩ (fun vr H hW _ _ => ?_)
    obtain ⟨hr, hW⟩ := hW
    subst hr
    have hW : tW z D m (upd g 0 (zb (!(m_isT n (nI k))))) B Bs L I C H := hW
    refine y_st (st' := [.int (zb (m_isT n (nI k)))]) rfl ?_
    refine y_if_eq (tgt := 21) hE dX4_ofTurbine_9 (by decide) (fun c9 => ?_) (fun c9 => ?_)
    · -- t 9
      rw [zb_0] at c9
      exact absurd c9 (by simp [hx])
    · -- f 9
      rw [zb_1] at c9
      refine y_aload_n hE dX4_ofTurbine_12 rfl (lv_at hl 0 rfl) ?_
      refine y_iload_n hE dX4_ofTurbine_13 rfl (lv_at hl 1 rfl) ?_
      refine y_iload_n hE dX4_ofTurbine_14 rfl (lv_at hl 2 rfl) ?_
      -- call t ['k', 'w']
      refine y_roV (rest := []) hE cl_X4_57 (kX4_t k w (by omega) (by omega)) dX4_ofTurbine_15 hl (Nat.le_of_ble_eq_true rfl) (y_recv hE rfl hW.1) rfl rfl (Nat.le_of_ble_eq_true rfl) hW ⟨(Nat.le_of_ble_eq_true rfl), (Nat.le_of_ble_eq_true rfl)⟩ ?_
      refine y_goto (tgt := 22) hE dX4_ofTurbine_18 (by decide) ?_
      rw [hQ]
      exact y_iret hE dX4_ofTurbine_22 ⟨(by simp [q_i, q_b, q_2, q_at, q_w, zb, c9, hx, hxi]), hW.cast (by simp [q_i, q_b, q_2, q_at, q_w, zb, c9, hx, hxi]) rfl rfl rfl rfl rfl⟩ (Nat.le_of_ble_eq_true rfl) (Nat.le_of_ble_eq_true rfl)

set_option maxHeartbeats 1000000 in
theorem kX4_rowOf {z : State} {D : yD} {m : Nat → Nat} {g B : Nat → Int32} {Bs : Nat → Nat → Int32} {L I C : Nat → Int32} (n : Nat) (x : Int32) (hn : B 0 = nI n) (hN : n ≤ 12) : yM yX4_rowOf (ws_ yX4_rowOf cX4_rowOf 2 (some .int)) (rmD 7 0 0) z D [.ref (m 0), .int x] (tW z D m g B Bs L I C) eI (fun vr H => vr = (q_i (m_idx n x) (fun k => m_t B k 0)).1 ∧ tW z D m (upd g 0 (q_i (m_idx n x) (fun k => m_t B k 0)).2) B Bs L I C H) 0 0 (tA m) := by
  refine yM_of (own := RX4) (by decide +kernel) rfl (Nat.le_of_ble_eq_true rfl) (fun H h => h.az) fun E hE hW ls hl hin => ?_
  obtain ⟨Q, hQ⟩ : ∃ Q, Q = yEm E eI (fun vr H => vr = (q_i (m_idx n x) (fun k => m_t B k 0)).1 ∧ tW z D m (upd g 0 (q_i (m_idx n x) (fun k => m_t B k 0)).2) B Bs L I C H) 0 0 (tA m) := ⟨_, rfl⟩
  rw [← hQ]
  generalize (e_s E).heap = H at hW ⊢
  have hl : lv_has ls 2 [(0, .ref (m 0)), (1, .int x)] := hl
  refine y_aload_n hE dX4_rowOf_0 rfl (lv_at hl 0 rfl) ?_
  refine y_iload_n hE dX4_rowOf_1 rfl (lv_at hl 1 rfl) ?_
  refine y_iconst (v := 0) hE dX4_rowOf_2 (by decide) ?_
  -- call ofTurbine ['x', '0']
  refine y_muV (rest := []) hE cl_X4_171 (kX4_ofTurbine n x 0 hn hN (by omega)) dX4_rowOf_3 hl (Nat.le_of_ble_eq_true rfl) (y_recv hE rfl hW.1) rfl rfl (Nat.le_of_ble_eq_true rfl) hW (fun _ h => h) ⟨(Nat.le_of_ble_eq_true rfl), (Nat.le_of_ble_eq_true rfl)⟩ (fun vr H hW _ _ => ?_)
  obtain ⟨hr, hW⟩ := hW
  subst hr
  have hW : tW z D m (upd g 0 (q_i (m_idx n x) (fun k => m_t B k 0)).2) B Bs L I C H := hW
  refine y_st (st' := [.int ((q_i (m_idx n x) (fun k => m_t B k 0)).1)]) rfl ?_
  rw [hQ]
  exact y_iret hE dX4_rowOf_6 ⟨(by simp [q_i, q_b, q_2, q_at, q_w, zb]), hW.cast rfl rfl rfl rfl rfl rfl⟩ (Nat.le_of_ble_eq_true rfl) (Nat.le_of_ble_eq_true rfl)

set_option maxHeartbeats 1000000 in
theorem kX4_columnOf {z : State} {D : yD} {m : Nat → Nat} {g B : Nat → Int32} {Bs : Nat → Nat → Int32} {L I C : Nat → Int32} (n : Nat) (x : Int32) (hn : B 0 = nI n) (hN : n ≤ 12) : yM yX4_columnOf (ws_ yX4_columnOf cX4_columnOf 2 (some .int)) (rmD 7 0 0) z D [.ref (m 0), .int x] (tW z D m g B Bs L I C) eI (fun vr H => vr = (q_i (m_idx n x) (fun k => m_t B k 1)).1 ∧ tW z D m (upd g 0 (q_i (m_idx n x) (fun k => m_t B k 1)).2) B Bs L I C H) 0 0 (tA m) := by
  refine yM_of (own := RX4) (by decide +kernel) rfl (Nat.le_of_ble_eq_true rfl) (fun H h => h.az) fun E hE hW ls hl hin => ?_
  obtain ⟨Q, hQ⟩ : ∃ Q, Q = yEm E eI (fun vr H => vr = (q_i (m_idx n x) (fun k => m_t B k 1)).1 ∧ tW z D m (upd g 0 (q_i (m_idx n x) (fun k => m_t B k 1)).2) B Bs L I C H) 0 0 (tA m) := ⟨_, rfl⟩
  rw [← hQ]
  generalize (e_s E).heap = H at hW ⊢
  have hl : lv_has ls 2 [(0, .ref (m 0)), (1, .int x)] := hl
  refine y_aload_n hE dX4_columnOf_0 rfl (lv_at hl 0 rfl) ?_
  refine y_iload_n hE dX4_columnOf_1 rfl (lv_at hl 1 rfl) ?_
  refine y_iconst (v := 1) hE dX4_columnOf_2 (by decide) ?_
  -- call ofTurbine ['x', '1']
  refine y_muV (rest := []) hE cl_X4_171 (kX4_ofTurbine n x 1 hn hN (by omega)) dX4_columnOf_3 hl (Nat.le_of_ble_eq_true rfl) (y_recv hE rfl hW.1) rfl rfl (Nat.le_of_ble_eq_true rfl) hW (fun _ h => h) ⟨(Nat.le_of_ble_eq_true rfl), (Nat.le_of_ble_eq_true rfl)⟩ (fun vr H hW _ _ => ?_)
  obtain ⟨hr, hW⟩ := hW
  subst hr
  have hW : tW z D m (upd g 0 (q_i (m_idx n x) (fun k => m_t B k 1)).2) B Bs L I C H := hW
  refine y_st (st' := [.int ((q_i (m_idx n x) (fun k => m_t B k 1)).1)]) rfl ?_
  rw [hQ]
  exact y_iret hE dX4_columnOf_6 ⟨(by simp [q_i, q_b, q_2, q_at, q_w, zb]), hW.cast rfl rfl rfl rfl rfl rfl⟩ (Nat.le_of_ble_eq_true rfl) (Nat.le_of_ble_eq_true rfl)

set_option maxHeartbeats 1000000 in
theorem kX4_ratedPower {z : State} {D : yD} {m : Nat → Nat} {g B : Nat → Int32} {Bs : Nat → Nat → Int32} {L I C : Nat → Int32} (n : Nat) (x : Int32) (hn : B 0 = nI n) (hN : n ≤ 12) : yM yX4_ratedPower (ws_ yX4_ratedPower cX4_ratedPower 2 (some .int)) (rmD 7 0 0) z D [.ref (m 0), .int x] (tW z D m g B Bs L I C) eI (fun vr H => vr = (q_i (m_idx n x) (fun k => m_t B k 2)).1 ∧ tW z D m (upd g 0 (q_i (m_idx n x) (fun k => m_t B k 2)).2) B Bs L I C H) 0 0 (tA m) := by
  refine yM_of (own := RX4) (by decide +kernel) rfl (Nat.le_of_ble_eq_true rfl) (fun H h => h.az) fun E hE hW ls hl hin => ?_
  obtain ⟨Q, hQ⟩ : ∃ Q, Q = yEm E eI (fun vr H => vr = (q_i (m_idx n x) (fun k => m_t B k 2)).1 ∧ tW z D m (upd g 0 (q_i (m_idx n x) (fun k => m_t B k 2)).2) B Bs L I C H) 0 0 (tA m) := ⟨_, rfl⟩
  rw [← hQ]
  generalize (e_s E).heap = H at hW ⊢
  have hl : lv_has ls 2 [(0, .ref (m 0)), (1, .int x)] := hl
  refine y_aload_n hE dX4_ratedPower_0 rfl (lv_at hl 0 rfl) ?_
  refine y_iload_n hE dX4_ratedPower_1 rfl (lv_at hl 1 rfl) ?_
  refine y_iconst (v := 2) hE dX4_ratedPower_2 (by decide) ?_
  -- call ofTurbine ['x', '2']
  refine y_muV (rest := []) hE cl_X4_171 (kX4_ofTurbine n x 2 hn hN (by omega)) dX4_ratedPower_3 hl (Nat.le_of_ble_eq_true rfl) (y_recv hE rfl hW.1) rfl rfl (Nat.le_of_ble_eq_true rfl) hW (fun _ h => h) ⟨(Nat.le_of_ble_eq_true rfl), (Nat.le_of_ble_eq_true rfl)⟩ (fun vr H hW _ _ => ?_)
  obtain ⟨hr, hW⟩ := hW
  subst hr
  have hW : tW z D m (upd g 0 (q_i (m_idx n x) (fun k => m_t B k 2)).2) B Bs L I C H := hW
  refine y_st (st' := [.int ((q_i (m_idx n x) (fun k => m_t B k 2)).1)]) rfl ?_
  rw [hQ]
  exact y_iret hE dX4_ratedPower_6 ⟨(by simp [q_i, q_b, q_2, q_at, q_w, zb]), hW.cast rfl rfl rfl rfl rfl rfl⟩ (Nat.le_of_ble_eq_true rfl) (Nat.le_of_ble_eq_true rfl)

set_option maxHeartbeats 1000000 in
theorem kX4_isRunning {z : State} {D : yD} {m : Nat → Nat} {g B : Nat → Int32} {Bs : Nat → Nat → Int32} {L I C : Nat → Int32} (n : Nat) (x : Int32) (hn : B 0 = nI n) (hN : n ≤ 12) : yM yX4_isRunning (ws_ yX4_isRunning cX4_isRunning 2 (some .boolean)) (rmD 7 0 0) z D [.ref (m 0), .int x] (tW z D m g B Bs L I C) eI (fun vr H => vr = zb (q_b (m_idx n x) (fun k => decide (m_t B k 3 = 0))).1 ∧ tW z D m (upd g 0 (q_b (m_idx n x) (fun k => decide (m_t B k 3 = 0))).2) B Bs L I C H) 0 0 (tA m) := by
  refine yM_of (own := RX4) (by decide +kernel) rfl (Nat.le_of_ble_eq_true rfl) (fun H h => h.az) fun E hE hW ls hl hin => ?_
  obtain ⟨Q, hQ⟩ : ∃ Q, Q = yEm E eI (fun vr H => vr = zb (q_b (m_idx n x) (fun k => decide (m_t B k 3 = 0))).1 ∧ tW z D m (upd g 0 (q_b (m_idx n x) (fun k => decide (m_t B k 3 = 0))).2) B Bs L I C H) 0 0 (tA m) := ⟨_, rfl⟩
  rw [← hQ]
  generalize (e_s E).heap = H at hW ⊢
  have hl : lv_has ls 2 [(0, .ref (m 0)), (1, .int x)] := hl
  rcases m_isT_or n x hN with ⟨hx, hxi⟩ | ⟨k, hk, rfl, hx, hxi⟩
  · -- no such place
    refine y_aload_n hE dX4_isRunning_0 rfl (lv_at hl 0 rfl) ?_
    refine y_aload_n hE dX4_isRunning_1 rfl (lv_at hl 0 rfl) ?_
    refine y_iload_n hE dX4_isRunning_2 rfl (lv_at hl 1 rfl) ?_
    -- call isTurbine ['x']
    refine y_roV (rest := [.ref (m 0)]) hE cl_X4_103 (kX4_isTurbine n x hn) dX4_isRunning_3 hl (Nat.le_of_ble_eq_true rfl) (y_recv hE rfl hW.1) rfl rfl (Nat.le_of_ble_eq_true rfl) hW ⟨(Nat.le_of_ble_eq_true rfl), (Nat.le_of_ble_eq_true rfl)⟩ ?_
    -- call isFine ['(m_isT n x)']
    refine y_muV (rest := []) hE cl_X4_49 (kX4_isFine (m_isT n x)) dX4_isRunning_6 hl (Nat.le_of_ble_eq_true rfl) (y_recv hE rfl hW.1) rfl rfl (Nat.le_of_ble_eq_true rfl) hW (fun _ h => h) ⟨(Nat.le_of_ble_eq_true rfl), (Nat.le_of_ble_eq_true rfl)⟩ (fun vr H hW _ _ => ?_)
    obtain ⟨hr, hW⟩ := hW
    subst hr
    have hW : tW z D m (upd g 0 (zb (!(m_isT n x)))) B Bs L I C H := hW
    refine y_st (st' := [.int (zb (m_isT n x))]) rfl ?_
    refine y_if_eq (tgt := 25) hE dX4_isRunning_9 (by decide) (fun c9 => ?_) (fun c9 => ?_)
    · -- t 9
      rw [zb_0] at c9
      refine y_iconst (v := 0) hE dX4_isRunning_25 (by decide) ?_
      rw [hQ]
      exact y_set1 (by simp [q_i, q_b, q_2, q_at, q_w, zb, c9, hx, hxi]) (y_zret hE (zb_nar _) dX4_isRunning_26 ⟨rfl, hW.cast (by simp [q_i, q_b, q_2, q_at, q_w, zb, c9, hx, hxi]) rfl rfl rfl rfl rfl⟩ (Nat.le_of_ble_eq_true rfl) (Nat.le_of_ble_eq_true rfl))
    · -- f 9
      rw [zb_1] at c9
      exact absurd c9 (by simp [hx])
  · -- a place
    have hl : lv_has ls 2 [(0, .ref (m 0)), (1, .int (nI k))] := hl
    refine y_aload_n hE dX4_isRunning_0 rfl (lv_at hl 0 rfl) ?_
    refine y_aload_n hE dX4_isRunning_1 rfl (lv_at hl 0 rfl) ?_
    refine y_iload_n hE dX4_isRunning_2 rfl (lv_at hl 1 rfl) ?_
    -- call isTurbine ['nI k']
    refine y_roV (rest := [.ref (m 0)]) hE cl_X4_103 (kX4_isTurbine n (nI k) hn) dX4_isRunning_3 hl (Nat.le_of_ble_eq_true rfl) (y_recv hE rfl hW.1) rfl rfl (Nat.le_of_ble_eq_true rfl) hW ⟨(Nat.le_of_ble_eq_true rfl), (Nat.le_of_ble_eq_true rfl)⟩ ?_
    -- call isFine ['(m_isT n (nI k))']
    refine y_muV (rest := []) hE cl_X4_49 (kX4_isFine (m_isT n (nI k))) dX4_isRunning_6 hl (Nat.le_of_ble_eq_true rfl) (y_recv hE rfl hW.1) rfl rfl (Nat.le_of_ble_eq_true rfl) hW (fun _ h => h) ⟨(Nat.le_of_ble_eq_true rfl), (Nat.le_of_ble_eq_true rfl)⟩ (fun vr H hW _ _ => ?_)
    obtain ⟨hr, hW⟩ := hW
    subst hr
    have hW : tW z D m (upd g 0 (zb (!(m_isT n (nI k))))) B Bs L I C H := hW
    refine y_st (st' := [.int (zb (m_isT n (nI k)))]) rfl ?_
    refine y_if_eq (tgt := 25) hE dX4_isRunning_9 (by decide) (fun c9 => ?_) (fun c9 => ?_)
    · -- t 9
      rw [zb_0] at c9
      exact absurd c9 (by simp [hx])
    · -- f 9
      rw [zb_1] at c9
      refine y_aload_n hE dX4_isRunning_12 rfl (lv_at hl 0 rfl) ?_
      refine y_iload_n hE dX4_isRunning_13 rfl (lv_at hl 1 rfl) ?_
      refine y_iconst (v := 3) hE dX4_isRunning_14 (by decide) ?_
      -- call t ['k', '3']
      refine y_roV (rest := []) hE cl_X4_57 (kX4_t k 3 (by omega) (by omega)) dX4_isRunning_15 hl (Nat.le_of_ble_eq_true rfl) (y_recv hE rfl hW.1) rfl rfl (Nat.le_of_ble_eq_true rfl) hW ⟨(Nat.le_of_ble_eq_true rfl), (Nat.le_of_ble_eq_true rfl)⟩ ?_
      refine y_if_ne (tgt := 25) hE dX4_isRunning_18 (by decide) (fun c18 => ?_) (fun c18 => ?_)
      · -- t 18
        refine y_iconst (v := 0) hE dX4_isRunning_25 (by decide) ?_
        rw [hQ]
        exact y_set1 (by simp [q_i, q_b, q_2, q_at, q_w, zb, c9, c18, hx, hxi]) (y_zret hE (zb_nar _) dX4_isRunning_26 ⟨rfl, hW.cast (by simp [q_i, q_b, q_2, q_at, q_w, zb, c9, c18, hx, hxi]) rfl rfl rfl rfl rfl⟩ (Nat.le_of_ble_eq_true rfl) (Nat.le_of_ble_eq_true rfl))
      · -- f 18
        refine y_iconst (v := 1) hE dX4_isRunning_21 (by decide) ?_
        refine y_goto (tgt := 26) hE dX4_isRunning_22 (by decide) ?_
        rw [hQ]
        exact y_set1 (by simp [q_i, q_b, q_2, q_at, q_w, zb, c9, c18, hx, hxi]) (y_zret hE (zb_nar _) dX4_isRunning_26 ⟨rfl, hW.cast (by simp [q_i, q_b, q_2, q_at, q_w, zb, c9, c18, hx, hxi]) rfl rfl rfl rfl rfl⟩ (Nat.le_of_ble_eq_true rfl) (Nat.le_of_ble_eq_true rfl))

set_option maxHeartbeats 1000000 in
theorem kX4_isFailed {z : State} {D : yD} {m : Nat → Nat} {g B : Nat → Int32} {Bs : Nat → Nat → Int32} {L I C : Nat → Int32} (n : Nat) (x : Int32) (hn : B 0 = nI n) (hN : n ≤ 12) : yM yX4_isFailed (ws_ yX4_isFailed cX4_isFailed 2 (some .boolean)) (rmD 7 0 0) z D [.ref (m 0), .int x] (tW z D m g B Bs L I C) eI (fun vr H => vr = zb (q_b (m_idx n x) (fun k => decide (m_t B k 3 = 1))).1 ∧ tW z D m (upd g 0 (q_b (m_idx n x) (fun k => decide (m_t B k 3 = 1))).2) B Bs L I C H) 0 0 (tA m) := by
  refine yM_of (own := RX4) (by decide +kernel) rfl (Nat.le_of_ble_eq_true rfl) (fun H h => h.az) fun E hE hW ls hl hin => ?_
  obtain ⟨Q, hQ⟩ : ∃ Q, Q = yEm E eI (fun vr H => vr = zb (q_b (m_idx n x) (fun k => decide (m_t B k 3 = 1))).1 ∧ tW z D m (upd g 0 (q_b (m_idx n x) (fun k => decide (m_t B k 3 = 1))).2) B Bs L I C H) 0 0 (tA m) := ⟨_, rfl⟩
  rw [← hQ]
  generalize (e_s E).heap = H at hW ⊢
  have hl : lv_has ls 2 [(0, .ref (m 0)), (1, .int x)] := hl
  rcases m_isT_or n x hN with ⟨hx, hxi⟩ | ⟨k, hk, rfl, hx, hxi⟩
  · -- no such place
    refine y_aload_n hE dX4_isFailed_0 rfl (lv_at hl 0 rfl) ?_
    refine y_iload_n hE dX4_isFailed_1 rfl (lv_at hl 1 rfl) ?_
    refine y_iconst (v := 3) hE dX4_isFailed_2 (by decide) ?_
    -- call ofTurbine ['x', '3']
    refine y_muV (rest := []) hE cl_X4_171 (kX4_ofTurbine n x 3 hn hN (by omega)) dX4_isFailed_3 hl (Nat.le_of_ble_eq_true rfl) (y_recv hE rfl hW.1) rfl rfl (Nat.le_of_ble_eq_true rfl) hW (fun _ h => h) ⟨(Nat.le_of_ble_eq_true rfl), (Nat.le_of_ble_eq_true rfl)⟩ (fun vr H hW _ _ => ?_)
    obtain ⟨hr, hW⟩ := hW
    subst hr
    have hW : tW z D m (upd g 0 (q_i (m_idx n x) (fun k => m_t B k 3)).2) B Bs L I C H := hW
    refine y_st (st' := [.int ((q_i (m_idx n x) (fun k => m_t B k 3)).1)]) rfl ?_
    refine y_iconst (v := 1) hE dX4_isFailed_6 (by decide) ?_
    refine y_icmp_ne (tgt := 14) hE dX4_isFailed_7 (by decide) (fun c7 => ?_) (fun c7 => ?_)
    · -- t 7
      refine y_iconst (v := 0) hE dX4_isFailed_14 (by decide) ?_
      rw [hQ]
      exact y_set1 (by clear hl hW; simp_all [q_i, q_b, zb]) (y_zret hE (zb_nar _) dX4_isFailed_15 ⟨rfl, hW.cast (by clear hl hW; simp_all [q_i, q_b, zb]) rfl rfl rfl rfl rfl⟩ (Nat.le_of_ble_eq_true rfl) (Nat.le_of_ble_eq_true rfl))
    · -- f 7
      refine y_iconst (v := 1) hE dX4_isFailed_10 (by decide) ?_
      refine y_goto (tgt := 15) hE dX4_isFailed_11 (by decide) ?_
      rw [hQ]
      exact y_set1 (by clear hl hW; simp_all [q_i, q_b, zb]) (y_zret hE (zb_nar _) dX4_isFailed_15 ⟨rfl, hW.cast (by clear hl hW; simp_all [q_i, q_b, zb]) rfl rfl rfl rfl rfl⟩ (Nat.le_of_ble_eq_true rfl) (Nat.le_of_ble_eq_true rfl))
  · -- a place
    have hl : lv_has ls 2 [(0, .ref (m 0)), (1, .int (nI k))] := hl
    refine y_aload_n hE dX4_isFailed_0 rfl (lv_at hl 0 rfl) ?_
    refine y_iload_n hE dX4_isFailed_1 rfl (lv_at hl 1 rfl) ?_
    refine y_iconst (v := 3) hE dX4_isFailed_2 (by decide) ?_
    -- call ofTurbine ['nI k', '3']
    refine y_muV (rest := []) hE cl_X4_171 (kX4_ofTurbine n (nI k) 3 hn hN (by omega)) dX4_isFailed_3 hl (Nat.le_of_ble_eq_true rfl) (y_recv hE rfl hW.1) rfl rfl (Nat.le_of_ble_eq_true rfl) hW (fun _ h => h) ⟨(Nat.le_of_ble_eq_true rfl), (Nat.le_of_ble_eq_true rfl)⟩ (fun vr H hW _ _ => ?_)
    obtain ⟨hr, hW⟩ := hW
    subst hr
    have hW : tW z D m (upd g 0 (q_i (m_idx n (nI k)) (fun k => m_t B k 3)).2) B Bs L I C H := hW
    refine y_st (st' := [.int ((q_i (m_idx n (nI k)) (fun k => m_t B k 3)).1)]) rfl ?_
    refine y_iconst (v := 1) hE dX4_isFailed_6 (by decide) ?_
    refine y_icmp_ne (tgt := 14) hE dX4_isFailed_7 (by decide) (fun c7 => ?_) (fun c7 => ?_)
    · -- t 7
      refine y_iconst (v := 0) hE dX4_isFailed_14 (by decide) ?_
      rw [hQ]
      exact y_set1 (by clear hl hW; simp_all [q_i, q_b, zb]) (y_zret hE (zb_nar _) dX4_isFailed_15 ⟨rfl, hW.cast (by clear hl hW; simp_all [q_i, q_b, zb]) rfl rfl rfl rfl rfl⟩ (Nat.le_of_ble_eq_true rfl) (Nat.le_of_ble_eq_true rfl))
    · -- f 7
      refine y_iconst (v := 1) hE dX4_isFailed_10 (by decide) ?_
      refine y_goto (tgt := 15) hE dX4_isFailed_11 (by decide) ?_
      rw [hQ]
      exact y_set1 (by clear hl hW; simp_all [q_i, q_b, zb]) (y_zret hE (zb_nar _) dX4_isFailed_15 ⟨rfl, hW.cast (by clear hl hW; simp_all [q_i, q_b, zb]) rfl rfl rfl rfl rfl⟩ (Nat.le_of_ble_eq_true rfl) (Nat.le_of_ble_eq_true rfl))

set_option maxHeartbeats 1000000 in
theorem kX4_isInService {z : State} {D : yD} {m : Nat → Nat} {g B : Nat → Int32} {Bs : Nat → Nat → Int32} {L I C : Nat → Int32} (n : Nat) (x : Int32) (hn : B 0 = nI n) (hN : n ≤ 12) : yM yX4_isInService (ws_ yX4_isInService cX4_isInService 2 (some .boolean)) (rmD 7 0 0) z D [.ref (m 0), .int x] (tW z D m g B Bs L I C) eI (fun vr H => vr = zb (q_b (m_idx n x) (fun k => decide (m_t B k 3 = 2))).1 ∧ tW z D m (upd g 0 (q_b (m_idx n x) (fun k => decide (m_t B k 3 = 2))).2) B Bs L I C H) 0 0 (tA m) := by
  refine yM_of (own := RX4) (by decide +kernel) rfl (Nat.le_of_ble_eq_true rfl) (fun H h => h.az) fun E hE hW ls hl hin => ?_
  obtain ⟨Q, hQ⟩ : ∃ Q, Q = yEm E eI (fun vr H => vr = zb (q_b (m_idx n x) (fun k => decide (m_t B k 3 = 2))).1 ∧ tW z D m (upd g 0 (q_b (m_idx n x) (fun k => decide (m_t B k 3 = 2))).2) B Bs L I C H) 0 0 (tA m) := ⟨_, rfl⟩
  rw [← hQ]
  generalize (e_s E).heap = H at hW ⊢
  have hl : lv_has ls 2 [(0, .ref (m 0)), (1, .int x)] := hl
  rcases m_isT_or n x hN with ⟨hx, hxi⟩ | ⟨k, hk, rfl, hx, hxi⟩
  · -- no such place
    refine y_aload_n hE dX4_isInService_0 rfl (lv_at hl 0 rfl) ?_
    refine y_iload_n hE dX4_isInService_1 rfl (lv_at hl 1 rfl) ?_
    refine y_iconst (v := 3) hE dX4_isInService_2 (by decide) ?_
    -- call ofTurbine ['x', '3']
    refine y_muV (rest := []) hE cl_X4_171 (kX4_ofTurbine n x 3 hn hN (by omega)) dX4_isInService_3 hl (Nat.le_of_ble_eq_true rfl) (y_recv hE rfl hW.1) rfl rfl (Nat.le_of_ble_eq_true rfl) hW (fun _ h => h) ⟨(Nat.le_of_ble_eq_true rfl), (Nat.le_of_ble_eq_true rfl)⟩ (fun vr H hW _ _ => ?_)
    obtain ⟨hr, hW⟩ := hW
    subst hr
    have hW : tW z D m (upd g 0 (q_i (m_idx n x) (fun k => m_t B k 3)).2) B Bs L I C H := hW
    refine y_st (st' := [.int ((q_i (m_idx n x) (fun k => m_t B k 3)).1)]) rfl ?_
    refine y_iconst (v := 2) hE dX4_isInService_6 (by decide) ?_
    refine y_icmp_ne (tgt := 14) hE dX4_isInService_7 (by decide) (fun c7 => ?_) (fun c7 => ?_)
    · -- t 7
      refine y_iconst (v := 0) hE dX4_isInService_14 (by decide) ?_
      rw [hQ]
      exact y_set1 (by clear hl hW; simp_all [q_i, q_b, zb]) (y_zret hE (zb_nar _) dX4_isInService_15 ⟨rfl, hW.cast (by clear hl hW; simp_all [q_i, q_b, zb]) rfl rfl rfl rfl rfl⟩ (Nat.le_of_ble_eq_true rfl) (Nat.le_of_ble_eq_true rfl))
    · -- f 7
      refine y_iconst (v := 1) hE dX4_isInService_10 (by decide) ?_
      refine y_goto (tgt := 15) hE dX4_isInService_11 (by decide) ?_
      rw [hQ]
      exact y_set1 (by clear hl hW; simp_all [q_i, q_b, zb]) (y_zret hE (zb_nar _) dX4_isInService_15 ⟨rfl, hW.cast (by clear hl hW; simp_all [q_i, q_b, zb]) rfl rfl rfl rfl rfl⟩ (Nat.le_of_ble_eq_true rfl) (Nat.le_of_ble_eq_true rfl))
  · -- a place
    have hl : lv_has ls 2 [(0, .ref (m 0)), (1, .int (nI k))] := hl
    refine y_aload_n hE dX4_isInService_0 rfl (lv_at hl 0 rfl) ?_
    refine y_iload_n hE dX4_isInService_1 rfl (lv_at hl 1 rfl) ?_
    refine y_iconst (v := 3) hE dX4_isInService_2 (by decide) ?_
    -- call ofTurbine ['nI k', '3']
    refine y_muV (rest := []) hE cl_X4_171 (kX4_ofTurbine n (nI k) 3 hn hN (by omega)) dX4_isInService_3 hl (Nat.le_of_ble_eq_true rfl) (y_recv hE rfl hW.1) rfl rfl (Nat.le_of_ble_eq_true rfl) hW (fun _ h => h) ⟨(Nat.le_of_ble_eq_true rfl), (Nat.le_of_ble_eq_true rfl)⟩ (fun vr H hW _ _ => ?_)
    obtain ⟨hr, hW⟩ := hW
    subst hr
    have hW : tW z D m (upd g 0 (q_i (m_idx n (nI k)) (fun k => m_t B k 3)).2) B Bs L I C H := hW
    refine y_st (st' := [.int ((q_i (m_idx n (nI k)) (fun k => m_t B k 3)).1)]) rfl ?_
    refine y_iconst (v := 2) hE dX4_isInService_6 (by decide) ?_
    refine y_icmp_ne (tgt := 14) hE dX4_isInService_7 (by decide) (fun c7 => ?_) (fun c7 => ?_)
    · -- t 7
      refine y_iconst (v := 0) hE dX4_isInService_14 (by decide) ?_
      rw [hQ]
      exact y_set1 (by clear hl hW; simp_all [q_i, q_b, zb]) (y_zret hE (zb_nar _) dX4_isInService_15 ⟨rfl, hW.cast (by clear hl hW; simp_all [q_i, q_b, zb]) rfl rfl rfl rfl rfl⟩ (Nat.le_of_ble_eq_true rfl) (Nat.le_of_ble_eq_true rfl))
    · -- f 7
      refine y_iconst (v := 1) hE dX4_isInService_10 (by decide) ?_
      refine y_goto (tgt := 15) hE dX4_isInService_11 (by decide) ?_
      rw [hQ]
      exact y_set1 (by clear hl hW; simp_all [q_i, q_b, zb]) (y_zret hE (zb_nar _) dX4_isInService_15 ⟨rfl, hW.cast (by clear hl hW; simp_all [q_i, q_b, zb]) rfl rfl rfl rfl rfl⟩ (Nat.le_of_ble_eq_true rfl) (Nat.le_of_ble_eq_true rfl))

set_option maxHeartbeats 1000000 in
theorem kX4_limitOf {z : State} {D : yD} {m : Nat → Nat} {g B : Nat → Int32} {Bs : Nat → Nat → Int32} {L I C : Nat → Int32} (n : Nat) (x : Int32) (hn : B 0 = nI n) (hN : n ≤ 12) : yM yX4_limitOf (ws_ yX4_limitOf cX4_limitOf 2 (some .int)) (rmD 7 0 0) z D [.ref (m 0), .int x] (tW z D m g B Bs L I C) eI (fun vr H => vr = (q_2 (m_idx n x) (fun k => decide (m_t B k 5 = 0)) (fun k => m_t B k 5 - 1)).1 ∧ tW z D m (upd g 0 (q_2 (m_idx n x) (fun k => decide (m_t B k 5 = 0)) (fun k => m_t B k 5 - 1)).2) B Bs L I C H) 0 0 (tA m) := by
  refine yM_of (own := RX4) (by decide +kernel) rfl (Nat.le_of_ble_eq_true rfl) (fun H h => h.az) fun E hE hW ls hl hin => ?_
  obtain ⟨Q, hQ⟩ : ∃ Q, Q = yEm E eI (fun vr H => vr = (q_2 (m_idx n x) (fun k => decide (m_t B k 5 = 0)) (fun k => m_t B k 5 - 1)).1 ∧ tW z D m (upd g 0 (q_2 (m_idx n x) (fun k => decide (m_t B k 5 = 0)) (fun k => m_t B k 5 - 1)).2) B Bs L I C H) 0 0 (tA m) := ⟨_, rfl⟩
  rw [← hQ]
  generalize (e_s E).heap = H at hW ⊢
  have hl : lv_has ls 2 [(0, .ref (m 0)), (1, .int x)] := hl
  rcases m_isT_or n x hN with ⟨hx, hxi⟩ | ⟨k, hk, rfl, hx, hxi⟩
  · -- no such place
    refine y_aload_n hE dX4_limitOf_0 rfl (lv_at hl 0 rfl) ?_
    refine y_aload_n hE dX4_limitOf_1 rfl (lv_at hl 0 rfl) ?_
    refine y_iload_n hE dX4_limitOf_2 rfl (lv_at hl 1 rfl) ?_
    -- call isTurbine ['x']
    refine y_roV (rest := [.ref (m 0)]) hE cl_X4_103 (kX4_isTurbine n x hn) dX4_limitOf_3 hl (Nat.le_of_ble_eq_true rfl) (y_recv hE rfl hW.1) rfl rfl (Nat.le_of_ble_eq_true rfl) hW ⟨(Nat.le_of_ble_eq_true rfl), (Nat.le_of_ble_eq_true rfl)⟩ ?_
    refine y_if_ne (tgt := 13) hE dX4_limitOf_6 (by decide) (fun c6 => ?_) (fun c6 => ?_)
    · -- t 6
      rw [zb_1] at c6
      exact absurd c6 (by simp [hx])
    · -- f 6
      rw [zb_0] at c6
      refine y_iconst (v := 1) hE dX4_limitOf_9 (by decide) ?_
      refine y_goto (tgt := 27) hE dX4_limitOf_10 (by decide) ?_
      refine t_put (g' := upd g 0 1) hE hW 0 (by decide) q1976 rfl rfl rfl rfl rfl dX4_limitOf_27 (fun H hW => ?_)
      refine y_aload_n hE dX4_limitOf_30 rfl (lv_at hl 0 rfl) ?_
      refine t_get (v := .int 1) hE 0 (by decide) q1976 rfl hW rfl dX4_limitOf_31 ?_
      refine y_if_ne (tgt := 48) hE dX4_limitOf_34 (by decide) (fun c34 => ?_) (fun c34 => ?_)
      · -- t 34
        refine y_iconst (v := 0) hE dX4_limitOf_48 (by decide) ?_
        rw [hQ]
        exact y_iret hE dX4_limitOf_49 ⟨(by simp [q_i, q_b, q_2, q_at, q_w, zb, c6, c34, hx, hxi]), hW.cast (by simp [q_i, q_b, q_2, q_at, q_w, zb, c6, c34, hx, hxi]) rfl rfl rfl rfl rfl⟩ (Nat.le_of_ble_eq_true rfl) (Nat.le_of_ble_eq_true rfl)
      · -- f 34
        exact absurd c34 (by decide)
  · -- a place
    have hl : lv_has ls 2 [(0, .ref (m 0)), (1, .int (nI k))] := hl
    refine y_aload_n hE dX4_limitOf_0 rfl (lv_at hl 0 rfl) ?_
    refine y_aload_n hE dX4_limitOf_1 rfl (lv_at hl 0 rfl) ?_
    refine y_iload_n hE dX4_limitOf_2 rfl (lv_at hl 1 rfl) ?_
    -- call isTurbine ['nI k']
    refine y_roV (rest := [.ref (m 0)]) hE cl_X4_103 (kX4_isTurbine n (nI k) hn) dX4_limitOf_3 hl (Nat.le_of_ble_eq_true rfl) (y_recv hE rfl hW.1) rfl rfl (Nat.le_of_ble_eq_true rfl) hW ⟨(Nat.le_of_ble_eq_true rfl), (Nat.le_of_ble_eq_true rfl)⟩ ?_
    refine y_if_ne (tgt := 13) hE dX4_limitOf_6 (by decide) (fun c6 => ?_) (fun c6 => ?_)
    · -- t 6
      rw [zb_1] at c6
      refine y_aload_n hE dX4_limitOf_13 rfl (lv_at hl 0 rfl) ?_
      refine y_iload_n hE dX4_limitOf_14 rfl (lv_at hl 1 rfl) ?_
      refine y_iconst (v := 5) hE dX4_limitOf_15 (by decide) ?_
      -- call t ['k', '5']
      refine y_roV (rest := [.ref (m 0)]) hE cl_X4_57 (kX4_t k 5 (by omega) (by omega)) dX4_limitOf_16 hl (Nat.le_of_ble_eq_true rfl) (y_recv hE rfl hW.1) rfl rfl (Nat.le_of_ble_eq_true rfl) hW ⟨(Nat.le_of_ble_eq_true rfl), (Nat.le_of_ble_eq_true rfl)⟩ ?_
      refine y_if_ne (tgt := 26) hE dX4_limitOf_19 (by decide) (fun c19 => ?_) (fun c19 => ?_)
      · -- t 19
        refine y_iconst (v := 0) hE dX4_limitOf_26 (by decide) ?_
        refine t_put (g' := upd g 0 0) hE hW 0 (by decide) q1976 rfl rfl rfl rfl rfl dX4_limitOf_27 (fun H hW => ?_)
        refine y_aload_n hE dX4_limitOf_30 rfl (lv_at hl 0 rfl) ?_
        refine t_get (v := .int 0) hE 0 (by decide) q1976 rfl hW rfl dX4_limitOf_31 ?_
        refine y_if_ne (tgt := 48) hE dX4_limitOf_34 (by decide) (fun c34 => ?_) (fun c34 => ?_)
        · -- t 34
          exact absurd c34 (by decide)
        · -- f 34
          refine y_aload_n hE dX4_limitOf_37 rfl (lv_at hl 0 rfl) ?_
          refine y_iload_n hE dX4_limitOf_38 rfl (lv_at hl 1 rfl) ?_
          refine y_iconst (v := 5) hE dX4_limitOf_39 (by decide) ?_
          -- call t ['k', '5']
          refine y_roV (rest := []) hE cl_X4_57 (kX4_t k 5 (by omega) (by omega)) dX4_limitOf_40 hl (Nat.le_of_ble_eq_true rfl) (y_recv hE rfl hW.1) rfl rfl (Nat.le_of_ble_eq_true rfl) hW ⟨(Nat.le_of_ble_eq_true rfl), (Nat.le_of_ble_eq_true rfl)⟩ ?_
          refine y_iconst (v := 1) hE dX4_limitOf_43 (by decide) ?_
          refine y_isub hE dX4_limitOf_44 ?_
          refine y_goto (tgt := 49) hE dX4_limitOf_45 (by decide) ?_
          rw [hQ]
          exact y_iret hE dX4_limitOf_49 ⟨(by simp [q_i, q_b, q_2, q_at, q_w, zb, c6, c19, c34, hx, hxi]), hW.cast (by simp [q_i, q_b, q_2, q_at, q_w, zb, c6, c19, c34, hx, hxi]) rfl rfl rfl rfl rfl⟩ (Nat.le_of_ble_eq_true rfl) (Nat.le_of_ble_eq_true rfl)
      · -- f 19
        refine y_iconst (v := 2) hE dX4_limitOf_22 (by decide) ?_
        refine y_goto (tgt := 27) hE dX4_limitOf_23 (by decide) ?_
        refine t_put (g' := upd g 0 2) hE hW 0 (by decide) q1976 rfl rfl rfl rfl rfl dX4_limitOf_27 (fun H hW => ?_)
        refine y_aload_n hE dX4_limitOf_30 rfl (lv_at hl 0 rfl) ?_
        refine t_get (v := .int 2) hE 0 (by decide) q1976 rfl hW rfl dX4_limitOf_31 ?_
        refine y_if_ne (tgt := 48) hE dX4_limitOf_34 (by decide) (fun c34 => ?_) (fun c34 => ?_)
        · -- t 34
          refine y_iconst (v := 0) hE dX4_limitOf_48 (by decide) ?_
          rw [hQ]
          exact y_iret hE dX4_limitOf_49 ⟨(by simp [q_i, q_b, q_2, q_at, q_w, zb, c6, c19, c34, hx, hxi]), hW.cast (by simp [q_i, q_b, q_2, q_at, q_w, zb, c6, c19, c34, hx, hxi]) rfl rfl rfl rfl rfl⟩ (Nat.le_of_ble_eq_true rfl) (Nat.le_of_ble_eq_true rfl)
        · -- f 34
          exact absurd c34 (by decide)
    · -- f 6
      rw [zb_0] at c6
      exact absurd c6 (by simp [hx])

set_option maxHeartbeats 1000000 in
theorem kX4_serviceHoursLeft {z : State} {D : yD} {m : Nat → Nat} {g B : Nat → Int32} {Bs : Nat → Nat → Int32} {L I C : Nat → Int32} (n : Nat) (x : Int32) (hn : B 0 = nI n) (hN : n ≤ 12) : yM yX4_serviceHoursLeft (ws_ yX4_serviceHoursLeft cX4_serviceHoursLeft 2 (some .int)) (rmD 7 0 0) z D [.ref (m 0), .int x] (tW z D m g B Bs L I C) eI (fun vr H => vr = (q_2 (m_idx n x) (fun k => decide (m_t B k 3 ≠ 2)) (fun k => m_t B k 4)).1 ∧ tW z D m (upd g 0 (q_2 (m_idx n x) (fun k => decide (m_t B k 3 ≠ 2)) (fun k => m_t B k 4)).2) B Bs L I C H) 0 0 (tA m) := by
  refine yM_of (own := RX4) (by decide +kernel) rfl (Nat.le_of_ble_eq_true rfl) (fun H h => h.az) fun E hE hW ls hl hin => ?_
  obtain ⟨Q, hQ⟩ : ∃ Q, Q = yEm E eI (fun vr H => vr = (q_2 (m_idx n x) (fun k => decide (m_t B k 3 ≠ 2)) (fun k => m_t B k 4)).1 ∧ tW z D m (upd g 0 (q_2 (m_idx n x) (fun k => decide (m_t B k 3 ≠ 2)) (fun k => m_t B k 4)).2) B Bs L I C H) 0 0 (tA m) := ⟨_, rfl⟩
  rw [← hQ]
  generalize (e_s E).heap = H at hW ⊢
  have hl : lv_has ls 2 [(0, .ref (m 0)), (1, .int x)] := hl
  rcases m_isT_or n x hN with ⟨hx, hxi⟩ | ⟨k, hk, rfl, hx, hxi⟩
  · -- no such place
    refine y_aload_n hE dX4_serviceHoursLeft_0 rfl (lv_at hl 0 rfl) ?_
    refine y_aload_n hE dX4_serviceHoursLeft_1 rfl (lv_at hl 0 rfl) ?_
    refine y_iload_n hE dX4_serviceHoursLeft_2 rfl (lv_at hl 1 rfl) ?_
    -- call isTurbine ['x']
    refine y_roV (rest := [.ref (m 0)]) hE cl_X4_103 (kX4_isTurbine n x hn) dX4_serviceHoursLeft_3 hl (Nat.le_of_ble_eq_true rfl) (y_recv hE rfl hW.1) rfl rfl (Nat.le_of_ble_eq_true rfl) hW ⟨(Nat.le_of_ble_eq_true rfl), (Nat.le_of_ble_eq_true rfl)⟩ ?_
    refine y_if_ne (tgt := 13) hE dX4_serviceHoursLeft_6 (by decide) (fun c6 => ?_) (fun c6 => ?_)
    · -- t 6
      rw [zb_1] at c6
      exact absurd c6 (by simp [hx])
    · -- f 6
      rw [zb_0] at c6
      refine y_iconst (v := 1) hE dX4_serviceHoursLeft_9 (by decide) ?_
      refine y_goto (tgt := 28) hE dX4_serviceHoursLeft_10 (by decide) ?_
      refine t_put (g' := upd g 0 1) hE hW 0 (by decide) q1976 rfl rfl rfl rfl rfl dX4_serviceHoursLeft_28 (fun H hW => ?_)
      refine y_aload_n hE dX4_serviceHoursLeft_31 rfl (lv_at hl 0 rfl) ?_
      refine t_get (v := .int 1) hE 0 (by decide) q1976 rfl hW rfl dX4_serviceHoursLeft_32 ?_
      refine y_if_ne (tgt := 47) hE dX4_serviceHoursLeft_35 (by decide) (fun c35 => ?_) (fun c35 => ?_)
      · -- t 35
        refine y_iconst (v := 0) hE dX4_serviceHoursLeft_47 (by decide) ?_
        rw [hQ]
        exact y_iret hE dX4_serviceHoursLeft_48 ⟨(by simp [q_i, q_b, q_2, q_at, q_w, zb, c6, c35, hx, hxi]), hW.cast (by simp [q_i, q_b, q_2, q_at, q_w, zb, c6, c35, hx, hxi]) rfl rfl rfl rfl rfl⟩ (Nat.le_of_ble_eq_true rfl) (Nat.le_of_ble_eq_true rfl)
      · -- f 35
        exact absurd c35 (by decide)
  · -- a place
    have hl : lv_has ls 2 [(0, .ref (m 0)), (1, .int (nI k))] := hl
    refine y_aload_n hE dX4_serviceHoursLeft_0 rfl (lv_at hl 0 rfl) ?_
    refine y_aload_n hE dX4_serviceHoursLeft_1 rfl (lv_at hl 0 rfl) ?_
    refine y_iload_n hE dX4_serviceHoursLeft_2 rfl (lv_at hl 1 rfl) ?_
    -- call isTurbine ['nI k']
    refine y_roV (rest := [.ref (m 0)]) hE cl_X4_103 (kX4_isTurbine n (nI k) hn) dX4_serviceHoursLeft_3 hl (Nat.le_of_ble_eq_true rfl) (y_recv hE rfl hW.1) rfl rfl (Nat.le_of_ble_eq_true rfl) hW ⟨(Nat.le_of_ble_eq_true rfl), (Nat.le_of_ble_eq_true rfl)⟩ ?_
    refine y_if_ne (tgt := 13) hE dX4_serviceHoursLeft_6 (by decide) (fun c6 => ?_) (fun c6 => ?_)
    · -- t 6
      rw [zb_1] at c6
      refine y_aload_n hE dX4_serviceHoursLeft_13 rfl (lv_at hl 0 rfl) ?_
      refine y_iload_n hE dX4_serviceHoursLeft_14 rfl (lv_at hl 1 rfl) ?_
      refine y_iconst (v := 3) hE dX4_serviceHoursLeft_15 (by decide) ?_
      -- call t ['k', '3']
      refine y_roV (rest := [.ref (m 0)]) hE cl_X4_57 (kX4_t k 3 (by omega) (by omega)) dX4_serviceHoursLeft_16 hl (Nat.le_of_ble_eq_true rfl) (y_recv hE rfl hW.1) rfl rfl (Nat.le_of_ble_eq_true rfl) hW ⟨(Nat.le_of_ble_eq_true rfl), (Nat.le_of_ble_eq_true rfl)⟩ ?_
      refine y_iconst (v := 2) hE dX4_serviceHoursLeft_19 (by decide) ?_
      refine y_icmp_eq (tgt := 27) hE dX4_serviceHoursLeft_20 (by decide) (fun c20 => ?_) (fun c20 => ?_)
      · -- t 20
        refine y_iconst (v := 0) hE dX4_serviceHoursLeft_27 (by decide) ?_
        refine t_put (g' := upd g 0 0) hE hW 0 (by decide) q1976 rfl rfl rfl rfl rfl dX4_serviceHoursLeft_28 (fun H hW => ?_)
        refine y_aload_n hE dX4_serviceHoursLeft_31 rfl (lv_at hl 0 rfl) ?_
        refine t_get (v := .int 0) hE 0 (by decide) q1976 rfl hW rfl dX4_serviceHoursLeft_32 ?_
        refine y_if_ne (tgt := 47) hE dX4_serviceHoursLeft_35 (by decide) (fun c35 => ?_) (fun c35 => ?_)
        · -- t 35
          exact absurd c35 (by decide)
        · -- f 35
          refine y_aload_n hE dX4_serviceHoursLeft_38 rfl (lv_at hl 0 rfl) ?_
          refine y_iload_n hE dX4_serviceHoursLeft_39 rfl (lv_at hl 1 rfl) ?_
          refine y_iconst (v := 4) hE dX4_serviceHoursLeft_40 (by decide) ?_
          -- call t ['k', '4']
          refine y_roV (rest := []) hE cl_X4_57 (kX4_t k 4 (by omega) (by omega)) dX4_serviceHoursLeft_41 hl (Nat.le_of_ble_eq_true rfl) (y_recv hE rfl hW.1) rfl rfl (Nat.le_of_ble_eq_true rfl) hW ⟨(Nat.le_of_ble_eq_true rfl), (Nat.le_of_ble_eq_true rfl)⟩ ?_
          refine y_goto (tgt := 48) hE dX4_serviceHoursLeft_44 (by decide) ?_
          rw [hQ]
          exact y_iret hE dX4_serviceHoursLeft_48 ⟨(by simp [q_i, q_b, q_2, q_at, q_w, zb, c6, c20, c35, hx, hxi]), hW.cast (by simp [q_i, q_b, q_2, q_at, q_w, zb, c6, c20, c35, hx, hxi]) rfl rfl rfl rfl rfl⟩ (Nat.le_of_ble_eq_true rfl) (Nat.le_of_ble_eq_true rfl)
      · -- f 20
        refine y_iconst (v := 2) hE dX4_serviceHoursLeft_23 (by decide) ?_
        refine y_goto (tgt := 28) hE dX4_serviceHoursLeft_24 (by decide) ?_
        refine t_put (g' := upd g 0 2) hE hW 0 (by decide) q1976 rfl rfl rfl rfl rfl dX4_serviceHoursLeft_28 (fun H hW => ?_)
        refine y_aload_n hE dX4_serviceHoursLeft_31 rfl (lv_at hl 0 rfl) ?_
        refine t_get (v := .int 2) hE 0 (by decide) q1976 rfl hW rfl dX4_serviceHoursLeft_32 ?_
        refine y_if_ne (tgt := 47) hE dX4_serviceHoursLeft_35 (by decide) (fun c35 => ?_) (fun c35 => ?_)
        · -- t 35
          refine y_iconst (v := 0) hE dX4_serviceHoursLeft_47 (by decide) ?_
          rw [hQ]
          exact y_iret hE dX4_serviceHoursLeft_48 ⟨(by simp [q_i, q_b, q_2, q_at, q_w, zb, c6, c20, c35, hx, hxi]), hW.cast (by simp [q_i, q_b, q_2, q_at, q_w, zb, c6, c20, c35, hx, hxi]) rfl rfl rfl rfl rfl⟩ (Nat.le_of_ble_eq_true rfl) (Nat.le_of_ble_eq_true rfl)
        · -- f 35
          exact absurd c35 (by decide)
    · -- f 6
      rw [zb_0] at c6
      exact absurd c6 (by simp [hx])

set_option maxHeartbeats 1000000 in
theorem kX4_freeCrews {z : State} {D : yD} {m : Nat → Nat} {g B : Nat → Int32} {Bs : Nat → Nat → Int32} {L I C : Nat → Int32} (n : Nat) (hn : B 0 = nI n) (hN : n ≤ 12) : yM yX4_freeCrews (ws_ yX4_freeCrews cX4_freeCrews 1 (some .int)) (rmD 3 0 0) z D [.ref (m 0)] (tW z D m g B Bs L I C) eI (fun vr H => vr = 2 - m_inSt B n 2 ∧ tW z D m (upd g 0 0) B Bs L I C H) 0 0 (tA m) := by
  refine yM_of (own := RX4) (by decide +kernel) rfl (Nat.le_of_ble_eq_true rfl) (fun H h => h.az) fun E hE hW ls hl hin => ?_
  obtain ⟨Q, hQ⟩ : ∃ Q, Q = yEm E eI (fun vr H => vr = 2 - m_inSt B n 2 ∧ tW z D m (upd g 0 0) B Bs L I C H) 0 0 (tA m) := ⟨_, rfl⟩
  rw [← hQ]
  generalize (e_s E).heap = H at hW ⊢
  have hl : lv_has ls 1 [(0, .ref (m 0))] := hl
  refine y_aload_n hE dX4_freeCrews_0 rfl (lv_at hl 0 rfl) ?_
  refine y_iconst (v := 0) hE dX4_freeCrews_1 (by decide) ?_
  refine t_put (g' := upd g 0 0) hE hW 0 (by decide) q1976 rfl rfl rfl rfl rfl dX4_freeCrews_2 (fun H hW => ?_)
  refine y_iconst (v := 2) hE dX4_freeCrews_5 (by decide) ?_
  refine y_aload_n hE dX4_freeCrews_6 rfl (lv_at hl 0 rfl) ?_
  refine y_iconst (v := 2) hE dX4_freeCrews_7 (by decide) ?_
  -- call inState ['2']
  refine y_roV (rest := [.int 2]) hE cl_X4_107 (kX4_inState n 2 (by repeat (first | exact hn | rw [upd_ne (by omega)] | rw [m_cuts_lo _ _ (by omega)] | rw [m_ticks_lo _ (by omega)] | rw [m_rels_lo _ (by omega)] | rw [m_hours_lo _ _ _ (by omega)] | rw [m_pay_lo _ _ _ (by omega)] | rw [tGo_2])) hN) dX4_freeCrews_8 hl (Nat.le_of_ble_eq_true rfl) (y_recv hE rfl hW.1) rfl rfl (Nat.le_of_ble_eq_true rfl) hW ⟨(Nat.le_of_ble_eq_true rfl), (Nat.le_of_ble_eq_true rfl)⟩ ?_
  refine y_isub hE dX4_freeCrews_11 ?_
  rw [hQ]
  exact y_iret hE dX4_freeCrews_12 ⟨rfl, hW.cast rfl rfl rfl rfl rfl rfl⟩ (Nat.le_of_ble_eq_true rfl) (Nat.le_of_ble_eq_true rfl)

set_option maxHeartbeats 1000000 in
theorem kX4_windDirection {z : State} {D : yD} {m : Nat → Nat} {g B : Nat → Int32} {Bs : Nat → Nat → Int32} {L I C : Nat → Int32}  : yM yX4_windDirection (ws_ yX4_windDirection cX4_windDirection 1 (some .char)) (rmD 2 0 0) z D [.ref (m 0)] (tW z D m g B Bs L I C) eI (fun vr H => vr = m_sign (B 1) ∧ tW z D m (upd g 0 0) B Bs L I C H) 0 0 (tA m) := by
  refine yM_of (own := RX4) (by decide +kernel) rfl (Nat.le_of_ble_eq_true rfl) (fun H h => h.az) fun E hE hW ls hl hin => ?_
  obtain ⟨Q, hQ⟩ : ∃ Q, Q = yEm E eI (fun vr H => vr = m_sign (B 1) ∧ tW z D m (upd g 0 0) B Bs L I C H) 0 0 (tA m) := ⟨_, rfl⟩
  rw [← hQ]
  generalize (e_s E).heap = H at hW ⊢
  have hl : lv_has ls 1 [(0, .ref (m 0))] := hl
  refine y_aload_n hE dX4_windDirection_0 rfl (lv_at hl 0 rfl) ?_
  refine y_iconst (v := 0) hE dX4_windDirection_1 (by decide) ?_
  refine t_put (g' := upd g 0 0) hE hW 0 (by decide) q1976 rfl rfl rfl rfl rfl dX4_windDirection_2 (fun H hW => ?_)
  refine y_aload_n hE dX4_windDirection_5 rfl (lv_at hl 0 rfl) ?_
  refine t_get (v := .ref (m 1)) hE 1 (by decide) q1977 rfl hW rfl dX4_windDirection_6 ?_
  refine y_iconst (v := 1) hE dX4_windDirection_9 (by decide) ?_
  refine t_aldB (j := 1) (v := B 1) hE hW (rfl) (by decide) rfl dX4_windDirection_10 ?_
  -- call signOf ['B 1']
  refine y_roS (rest := []) hE cl_X4_174 (kX4_signOf (B 1)) dX4_windDirection_11 hl (Nat.le_of_ble_eq_true rfl) rfl rfl (Nat.le_of_ble_eq_true rfl) trivial ⟨(Nat.le_of_ble_eq_true rfl), (Nat.le_of_ble_eq_true rfl)⟩ ?_
  rw [hQ]
  exact y_set1 rfl (y_zret hE (m_sign_nar _) dX4_windDirection_14 ⟨rfl, hW.cast rfl rfl rfl rfl rfl rfl⟩ (Nat.le_of_ble_eq_true rfl) (Nat.le_of_ble_eq_true rfl))

set_option maxHeartbeats 1000000 in
theorem kX4_windSpeed {z : State} {D : yD} {m : Nat → Nat} {g B : Nat → Int32} {Bs : Nat → Nat → Int32} {L I C : Nat → Int32}  : yM yX4_windSpeed (ws_ yX4_windSpeed cX4_windSpeed 1 (some .int)) (rmD 1 0 0) z D [.ref (m 0)] (tW z D m g B Bs L I C) eI (fun vr H => vr = B 2 ∧ tW z D m (upd g 0 0) B Bs L I C H) 0 0 (tA m) := by
  refine yM_of (own := RX4) (by decide +kernel) rfl (Nat.le_of_ble_eq_true rfl) (fun H h => h.az) fun E hE hW ls hl hin => ?_
  obtain ⟨Q, hQ⟩ : ∃ Q, Q = yEm E eI (fun vr H => vr = B 2 ∧ tW z D m (upd g 0 0) B Bs L I C H) 0 0 (tA m) := ⟨_, rfl⟩
  rw [← hQ]
  generalize (e_s E).heap = H at hW ⊢
  have hl : lv_has ls 1 [(0, .ref (m 0))] := hl
  refine y_aload_n hE dX4_windSpeed_0 rfl (lv_at hl 0 rfl) ?_
  refine y_iconst (v := 0) hE dX4_windSpeed_1 (by decide) ?_
  refine t_put (g' := upd g 0 0) hE hW 0 (by decide) q1976 rfl rfl rfl rfl rfl dX4_windSpeed_2 (fun H hW => ?_)
  refine y_aload_n hE dX4_windSpeed_5 rfl (lv_at hl 0 rfl) ?_
  refine t_get (v := .ref (m 1)) hE 1 (by decide) q1977 rfl hW rfl dX4_windSpeed_6 ?_
  refine y_iconst (v := 2) hE dX4_windSpeed_9 (by decide) ?_
  refine t_aldB (j := 2) (v := B 2) hE hW (rfl) (by decide) rfl dX4_windSpeed_10 ?_
  rw [hQ]
  exact y_iret hE dX4_windSpeed_11 ⟨rfl, hW.cast rfl rfl rfl rfl rfl rfl⟩ (Nat.le_of_ble_eq_true rfl) (Nat.le_of_ble_eq_true rfl)

set_option maxHeartbeats 1000000 in
theorem kX4_powerFactor {z : State} {D : yD} {m : Nat → Nat} {g B : Nat → Int32} {Bs : Nat → Nat → Int32} {L I C : Nat → Int32}  : yM yX4_powerFactor (ws_ yX4_powerFactor cX4_powerFactor 1 (some .int)) (rmD 2 0 0) z D [.ref (m 0)] (tW z D m g B Bs L I C) eI (fun vr H => vr = m_fac (B 2) ∧ tW z D m (upd g 0 0) B Bs L I C H) 0 0 (tA m) := by
  refine yM_of (own := RX4) (by decide +kernel) rfl (Nat.le_of_ble_eq_true rfl) (fun H h => h.az) fun E hE hW ls hl hin => ?_
  obtain ⟨Q, hQ⟩ : ∃ Q, Q = yEm E eI (fun vr H => vr = m_fac (B 2) ∧ tW z D m (upd g 0 0) B Bs L I C H) 0 0 (tA m) := ⟨_, rfl⟩
  rw [← hQ]
  generalize (e_s E).heap = H at hW ⊢
  have hl : lv_has ls 1 [(0, .ref (m 0))] := hl
  refine y_aload_n hE dX4_powerFactor_0 rfl (lv_at hl 0 rfl) ?_
  refine y_iconst (v := 0) hE dX4_powerFactor_1 (by decide) ?_
  refine t_put (g' := upd g 0 0) hE hW 0 (by decide) q1976 rfl rfl rfl rfl rfl dX4_powerFactor_2 (fun H hW => ?_)
  refine y_aload_n hE dX4_powerFactor_5 rfl (lv_at hl 0 rfl) ?_
  refine t_get (v := .ref (m 1)) hE 1 (by decide) q1977 rfl hW rfl dX4_powerFactor_6 ?_
  refine y_iconst (v := 2) hE dX4_powerFactor_9 (by decide) ?_
  refine t_aldB (j := 2) (v := B 2) hE hW (rfl) (by decide) rfl dX4_powerFactor_10 ?_
  -- call factorOf ['B 2']
  refine y_roS (rest := []) hE cl_X4_67 (kX4_factorOf (B 2)) dX4_powerFactor_11 hl (Nat.le_of_ble_eq_true rfl) rfl rfl (Nat.le_of_ble_eq_true rfl) trivial ⟨(Nat.le_of_ble_eq_true rfl), (Nat.le_of_ble_eq_true rfl)⟩ ?_
  rw [hQ]
  exact y_iret hE dX4_powerFactor_14 ⟨rfl, hW.cast rfl rfl rfl rfl rfl rfl⟩ (Nat.le_of_ble_eq_true rfl) (Nat.le_of_ble_eq_true rfl)

set_option maxHeartbeats 1000000 in
theorem kX4_wakeLoss {z : State} {D : yD} {m : Nat → Nat} {g B : Nat → Int32} {Bs : Nat → Nat → Int32} {L I C : Nat → Int32} (n : Nat) (x : Int32) (hn : B 0 = nI n) (hN : n ≤ 12) : yM yX4_wakeLoss (ws_ yX4_wakeLoss cX4_wakeLoss 2 (some .int)) (rmD 7 0 0) z D [.ref (m 0), .int x] (tW z D m g B Bs L I C) eI (fun vr H => vr = (q_i (m_idx n x) (fun k => m_loss B n k)).1 ∧ tW z D m (upd g 0 (q_i (m_idx n x) (fun k => m_loss B n k)).2) B Bs L I C H) 0 0 (tA m) := by
  refine yM_of (own := RX4) (by decide +kernel) rfl (Nat.le_of_ble_eq_true rfl) (fun H h => h.az) fun E hE hW ls hl hin => ?_
  obtain ⟨Q, hQ⟩ : ∃ Q, Q = yEm E eI (fun vr H => vr = (q_i (m_idx n x) (fun k => m_loss B n k)).1 ∧ tW z D m (upd g 0 (q_i (m_idx n x) (fun k => m_loss B n k)).2) B Bs L I C H) 0 0 (tA m) := ⟨_, rfl⟩
  rw [← hQ]
  generalize (e_s E).heap = H at hW ⊢
  have hl : lv_has ls 2 [(0, .ref (m 0)), (1, .int x)] := hl
  rcases m_isT_or n x hN with ⟨hx, hxi⟩ | ⟨k, hk, rfl, hx, hxi⟩
  · -- no such place
    refine y_aload_n hE dX4_wakeLoss_0 rfl (lv_at hl 0 rfl) ?_
    refine y_aload_n hE dX4_wakeLoss_1 rfl (lv_at hl 0 rfl) ?_
    refine y_iload_n hE dX4_wakeLoss_2 rfl (lv_at hl 1 rfl) ?_
    -- call isTurbine ['x']
    refine y_roV (rest := [.ref (m 0)]) hE cl_X4_103 (kX4_isTurbine n x hn) dX4_wakeLoss_3 hl (Nat.le_of_ble_eq_true rfl) (y_recv hE rfl hW.1) rfl rfl (Nat.le_of_ble_eq_true rfl) hW ⟨(Nat.le_of_ble_eq_true rfl), (Nat.le_of_ble_eq_true rfl)⟩ ?_
    -- call isFine ['(m_isT n x)']
    refine y_muV (rest := []) hE cl_X4_49 (kX4_isFine (m_isT n x)) dX4_wakeLoss_6 hl (Nat.le_of_ble_eq_true rfl) (y_recv hE rfl hW.1) rfl rfl (Nat.le_of_ble_eq_true rfl) hW (fun _ h => h) ⟨(Nat.le_of_ble_eq_true rfl), (Nat.le_of_ble_eq_true rfl)⟩ (fun vr H hW _ _ => ?_)
    obtain ⟨hr, hW⟩ := hW
    subst hr
    have hW : tW z D m (upd g 0 (zb (!(m_isT n x)))) B Bs L I C H := hW
    refine y_st (st' := [.int (zb (m_isT n x))]) rfl ?_
    refine y_if_eq (tgt := 20) hE dX4_wakeLoss_9 (by decide) (fun c9 => ?_) (fun c9 => ?_)
    · -- t 9
      rw [zb_0] at c9
      refine y_iconst (v := 0) hE dX4_wakeLoss_20 (by decide) ?_
      rw [hQ]
      exact y_iret hE dX4_wakeLoss_21 ⟨(by simp [q_i, q_b, q_2, q_at, q_w, zb, c9, hx, hxi]), hW.cast (by simp [q_i, q_b, q_2, q_at, q_w, zb, c9, hx, hxi]) rfl rfl rfl rfl rfl⟩ (Nat.le_of_ble_eq_true rfl) (Nat.le_of_ble_eq_true rfl)
    · -- f 9
      rw [zb_1] at c9
      exact absurd c9 (by simp [hx])
  · -- a place
    have hl : lv_has ls 2 [(0, .ref (m 0)), (1, .int (nI k))] := hl
    refine y_aload_n hE dX4_wakeLoss_0 rfl (lv_at hl 0 rfl) ?_
    refine y_aload_n hE dX4_wakeLoss_1 rfl (lv_at hl 0 rfl) ?_
    refine y_iload_n hE dX4_wakeLoss_2 rfl (lv_at hl 1 rfl) ?_
    -- call isTurbine ['nI k']
    refine y_roV (rest := [.ref (m 0)]) hE cl_X4_103 (kX4_isTurbine n (nI k) hn) dX4_wakeLoss_3 hl (Nat.le_of_ble_eq_true rfl) (y_recv hE rfl hW.1) rfl rfl (Nat.le_of_ble_eq_true rfl) hW ⟨(Nat.le_of_ble_eq_true rfl), (Nat.le_of_ble_eq_true rfl)⟩ ?_
    -- call isFine ['(m_isT n (nI k))']
    refine y_muV (rest := []) hE cl_X4_49 (kX4_isFine (m_isT n (nI k))) dX4_wakeLoss_6 hl (Nat.le_of_ble_eq_true rfl) (y_recv hE rfl hW.1) rfl rfl (Nat.le_of_ble_eq_true rfl) hW (fun _ h => h) ⟨(Nat.le_of_ble_eq_true rfl), (Nat.le_of_ble_eq_true rfl)⟩ (fun vr H hW _ _ => ?_)
    obtain ⟨hr, hW⟩ := hW
    subst hr
    have hW : tW z D m (upd g 0 (zb (!(m_isT n (nI k))))) B Bs L I C H := hW
    refine y_st (st' := [.int (zb (m_isT n (nI k)))]) rfl ?_
    refine y_if_eq (tgt := 20) hE dX4_wakeLoss_9 (by decide) (fun c9 => ?_) (fun c9 => ?_)
    · -- t 9
      rw [zb_0] at c9
      exact absurd c9 (by simp [hx])
    · -- f 9
      rw [zb_1] at c9
      refine y_aload_n hE dX4_wakeLoss_12 rfl (lv_at hl 0 rfl) ?_
      refine y_iload_n hE dX4_wakeLoss_13 rfl (lv_at hl 1 rfl) ?_
      -- call lossOf ['k']
      refine y_roV (rest := []) hE cl_X4_71 (kX4_lossOf n k (by repeat (first | exact hn | rw [upd_ne (by omega)] | rw [m_cuts_lo _ _ (by omega)] | rw [m_ticks_lo _ (by omega)] | rw [m_rels_lo _ (by omega)] | rw [m_hours_lo _ _ _ (by omega)] | rw [m_pay_lo _ _ _ (by omega)] | rw [tGo_2])) hN (by omega)) dX4_wakeLoss_14 hl (Nat.le_of_ble_eq_true rfl) (y_recv hE rfl hW.1) rfl rfl (Nat.le_of_ble_eq_true rfl) hW ⟨(Nat.le_of_ble_eq_true rfl), (Nat.le_of_ble_eq_true rfl)⟩ ?_
      refine y_goto (tgt := 21) hE dX4_wakeLoss_17 (by decide) ?_
      rw [hQ]
      exact y_iret hE dX4_wakeLoss_21 ⟨(by simp [q_i, q_b, q_2, q_at, q_w, zb, c9, hx, hxi]), hW.cast (by simp [q_i, q_b, q_2, q_at, q_w, zb, c9, hx, hxi]) rfl rfl rfl rfl rfl⟩ (Nat.le_of_ble_eq_true rfl) (Nat.le_of_ble_eq_true rfl)

set_option maxHeartbeats 1000000 in
theorem kX4_availablePower {z : State} {D : yD} {m : Nat → Nat} {g B : Nat → Int32} {Bs : Nat → Nat → Int32} {L I C : Nat → Int32} (n : Nat) (x : Int32) (hn : B 0 = nI n) (hN : n ≤ 12) : yM yX4_availablePower (ws_ yX4_availablePower cX4_availablePower 2 (some .int)) (rmD 7 0 0) z D [.ref (m 0), .int x] (tW z D m g B Bs L I C) eI (fun vr H => vr = (q_i (m_idx n x) (fun k => m_avail B n k)).1 ∧ tW z D m (upd g 0 (q_i (m_idx n x) (fun k => m_avail B n k)).2) B Bs L I C H) 0 0 (tA m) := by
  refine yM_of (own := RX4) (by decide +kernel) rfl (Nat.le_of_ble_eq_true rfl) (fun H h => h.az) fun E hE hW ls hl hin => ?_
  obtain ⟨Q, hQ⟩ : ∃ Q, Q = yEm E eI (fun vr H => vr = (q_i (m_idx n x) (fun k => m_avail B n k)).1 ∧ tW z D m (upd g 0 (q_i (m_idx n x) (fun k => m_avail B n k)).2) B Bs L I C H) 0 0 (tA m) := ⟨_, rfl⟩
  rw [← hQ]
  generalize (e_s E).heap = H at hW ⊢
  have hl : lv_has ls 2 [(0, .ref (m 0)), (1, .int x)] := hl
  rcases m_isT_or n x hN with ⟨hx, hxi⟩ | ⟨k, hk, rfl, hx, hxi⟩
  · -- no such place
    refine y_aload_n hE dX4_availablePower_0 rfl (lv_at hl 0 rfl) ?_
    refine y_aload_n hE dX4_availablePower_1 rfl (lv_at hl 0 rfl) ?_
    refine y_iload_n hE dX4_availablePower_2 rfl (lv_at hl 1 rfl) ?_
    -- call isTurbine ['x']
    refine y_roV (rest := [.ref (m 0)]) hE cl_X4_103 (kX4_isTurbine n x hn) dX4_availablePower_3 hl (Nat.le_of_ble_eq_true rfl) (y_recv hE rfl hW.1) rfl rfl (Nat.le_of_ble_eq_true rfl) hW ⟨(Nat.le_of_ble_eq_true rfl), (Nat.le_of_ble_eq_true rfl)⟩ ?_
    -- call isFine ['(m_isT n x)']
    refine y_muV (rest := []) hE cl_X4_49 (kX4_isFine (m_isT n x)) dX4_availablePower_6 hl (Nat.le_of_ble_eq_true rfl) (y_recv hE rfl hW.1) rfl rfl (Nat.le_of_ble_eq_true rfl) hW (fun _ h => h) ⟨(Nat.le_of_ble_eq_true rfl), (Nat.le_of_ble_eq_true rfl)⟩ (fun vr H hW _ _ => ?_)
    obtain ⟨hr, hW⟩ := hW
    subst hr
    have hW : tW z D m (upd g 0 (zb (!(m_isT n x)))) B Bs L I C H := hW
    refine y_st (st' := [.int (zb (m_isT n x))]) rfl ?_
    refine y_if_eq (tgt := 20) hE dX4_availablePower_9 (by decide) (fun c9 => ?_) (fun c9 => ?_)
    · -- t 9
      rw [zb_0] at c9
      refine y_iconst (v := 0) hE dX4_availablePower_20 (by decide) ?_
      rw [hQ]
      exact y_iret hE dX4_availablePower_21 ⟨(by simp [q_i, q_b, q_2, q_at, q_w, zb, c9, hx, hxi]), hW.cast (by simp [q_i, q_b, q_2, q_at, q_w, zb, c9, hx, hxi]) rfl rfl rfl rfl rfl⟩ (Nat.le_of_ble_eq_true rfl) (Nat.le_of_ble_eq_true rfl)
    · -- f 9
      rw [zb_1] at c9
      exact absurd c9 (by simp [hx])
  · -- a place
    have hl : lv_has ls 2 [(0, .ref (m 0)), (1, .int (nI k))] := hl
    refine y_aload_n hE dX4_availablePower_0 rfl (lv_at hl 0 rfl) ?_
    refine y_aload_n hE dX4_availablePower_1 rfl (lv_at hl 0 rfl) ?_
    refine y_iload_n hE dX4_availablePower_2 rfl (lv_at hl 1 rfl) ?_
    -- call isTurbine ['nI k']
    refine y_roV (rest := [.ref (m 0)]) hE cl_X4_103 (kX4_isTurbine n (nI k) hn) dX4_availablePower_3 hl (Nat.le_of_ble_eq_true rfl) (y_recv hE rfl hW.1) rfl rfl (Nat.le_of_ble_eq_true rfl) hW ⟨(Nat.le_of_ble_eq_true rfl), (Nat.le_of_ble_eq_true rfl)⟩ ?_
    -- call isFine ['(m_isT n (nI k))']
    refine y_muV (rest := []) hE cl_X4_49 (kX4_isFine (m_isT n (nI k))) dX4_availablePower_6 hl (Nat.le_of_ble_eq_true rfl) (y_recv hE rfl hW.1) rfl rfl (Nat.le_of_ble_eq_true rfl) hW (fun _ h => h) ⟨(Nat.le_of_ble_eq_true rfl), (Nat.le_of_ble_eq_true rfl)⟩ (fun vr H hW _ _ => ?_)
    obtain ⟨hr, hW⟩ := hW
    subst hr
    have hW : tW z D m (upd g 0 (zb (!(m_isT n (nI k))))) B Bs L I C H := hW
    refine y_st (st' := [.int (zb (m_isT n (nI k)))]) rfl ?_
    refine y_if_eq (tgt := 20) hE dX4_availablePower_9 (by decide) (fun c9 => ?_) (fun c9 => ?_)
    · -- t 9
      rw [zb_0] at c9
      exact absurd c9 (by simp [hx])
    · -- f 9
      rw [zb_1] at c9
      refine y_aload_n hE dX4_availablePower_12 rfl (lv_at hl 0 rfl) ?_
      refine y_iload_n hE dX4_availablePower_13 rfl (lv_at hl 1 rfl) ?_
      -- call available ['k']
      refine y_roV (rest := []) hE cl_X4_74 (kX4_available n k (by repeat (first | exact hn | rw [upd_ne (by omega)] | rw [m_cuts_lo _ _ (by omega)] | rw [m_ticks_lo _ (by omega)] | rw [m_rels_lo _ (by omega)] | rw [m_hours_lo _ _ _ (by omega)] | rw [m_pay_lo _ _ _ (by omega)] | rw [tGo_2])) hN (by omega)) dX4_availablePower_14 hl (Nat.le_of_ble_eq_true rfl) (y_recv hE rfl hW.1) rfl rfl (Nat.le_of_ble_eq_true rfl) hW ⟨(Nat.le_of_ble_eq_true rfl), (Nat.le_of_ble_eq_true rfl)⟩ ?_
      refine y_goto (tgt := 21) hE dX4_availablePower_17 (by decide) ?_
      rw [hQ]
      exact y_iret hE dX4_availablePower_21 ⟨(by simp [q_i, q_b, q_2, q_at, q_w, zb, c9, hx, hxi]), hW.cast (by simp [q_i, q_b, q_2, q_at, q_w, zb, c9, hx, hxi]) rfl rfl rfl rfl rfl⟩ (Nat.le_of_ble_eq_true rfl) (Nat.le_of_ble_eq_true rfl)

set_option maxHeartbeats 1000000 in
theorem kX4_outputOf {z : State} {D : yD} {m : Nat → Nat} {g B : Nat → Int32} {Bs : Nat → Nat → Int32} {L I C : Nat → Int32} (n : Nat) (x : Int32) (hn : B 0 = nI n) (hN : n ≤ 12) : yM yX4_outputOf (ws_ yX4_outputOf cX4_outputOf 2 (some .int)) (rmD 7 0 0) z D [.ref (m 0), .int x] (tW z D m g B Bs L I C) eI (fun vr H => vr = (q_i (m_idx n x) (fun k => m_out B n k)).1 ∧ tW z D m (upd g 0 (q_i (m_idx n x) (fun k => m_out B n k)).2) B Bs L I C H) 0 0 (tA m) := by
  refine yM_of (own := RX4) (by decide +kernel) rfl (Nat.le_of_ble_eq_true rfl) (fun H h => h.az) fun E hE hW ls hl hin => ?_
  obtain ⟨Q, hQ⟩ : ∃ Q, Q = yEm E eI (fun vr H => vr = (q_i (m_idx n x) (fun k => m_out B n k)).1 ∧ tW z D m (upd g 0 (q_i (m_idx n x) (fun k => m_out B n k)).2) B Bs L I C H) 0 0 (tA m) := ⟨_, rfl⟩
  rw [← hQ]
  generalize (e_s E).heap = H at hW ⊢
  have hl : lv_has ls 2 [(0, .ref (m 0)), (1, .int x)] := hl
  rcases m_isT_or n x hN with ⟨hx, hxi⟩ | ⟨k, hk, rfl, hx, hxi⟩
  · -- no such place
    refine y_aload_n hE dX4_outputOf_0 rfl (lv_at hl 0 rfl) ?_
    refine y_aload_n hE dX4_outputOf_1 rfl (lv_at hl 0 rfl) ?_
    refine y_iload_n hE dX4_outputOf_2 rfl (lv_at hl 1 rfl) ?_
    -- call isTurbine ['x']
    refine y_roV (rest := [.ref (m 0)]) hE cl_X4_103 (kX4_isTurbine n x hn) dX4_outputOf_3 hl (Nat.le_of_ble_eq_true rfl) (y_recv hE rfl hW.1) rfl rfl (Nat.le_of_ble_eq_true rfl) hW ⟨(Nat.le_of_ble_eq_true rfl), (Nat.le_of_ble_eq_true rfl)⟩ ?_
    -- call isFine ['(m_isT n x)']
    refine y_muV (rest := []) hE cl_X4_49 (kX4_isFine (m_isT n x)) dX4_outputOf_6 hl (Nat.le_of_ble_eq_true rfl) (y_recv hE rfl hW.1) rfl rfl (Nat.le_of_ble_eq_true rfl) hW (fun _ h => h) ⟨(Nat.le_of_ble_eq_true rfl), (Nat.le_of_ble_eq_true rfl)⟩ (fun vr H hW _ _ => ?_)
    obtain ⟨hr, hW⟩ := hW
    subst hr
    have hW : tW z D m (upd g 0 (zb (!(m_isT n x)))) B Bs L I C H := hW
    refine y_st (st' := [.int (zb (m_isT n x))]) rfl ?_
    refine y_if_eq (tgt := 20) hE dX4_outputOf_9 (by decide) (fun c9 => ?_) (fun c9 => ?_)
    · -- t 9
      rw [zb_0] at c9
      refine y_iconst (v := 0) hE dX4_outputOf_20 (by decide) ?_
      rw [hQ]
      exact y_iret hE dX4_outputOf_21 ⟨(by simp [q_i, q_b, q_2, q_at, q_w, zb, c9, hx, hxi]), hW.cast (by simp [q_i, q_b, q_2, q_at, q_w, zb, c9, hx, hxi]) rfl rfl rfl rfl rfl⟩ (Nat.le_of_ble_eq_true rfl) (Nat.le_of_ble_eq_true rfl)
    · -- f 9
      rw [zb_1] at c9
      exact absurd c9 (by simp [hx])
  · -- a place
    have hl : lv_has ls 2 [(0, .ref (m 0)), (1, .int (nI k))] := hl
    refine y_aload_n hE dX4_outputOf_0 rfl (lv_at hl 0 rfl) ?_
    refine y_aload_n hE dX4_outputOf_1 rfl (lv_at hl 0 rfl) ?_
    refine y_iload_n hE dX4_outputOf_2 rfl (lv_at hl 1 rfl) ?_
    -- call isTurbine ['nI k']
    refine y_roV (rest := [.ref (m 0)]) hE cl_X4_103 (kX4_isTurbine n (nI k) hn) dX4_outputOf_3 hl (Nat.le_of_ble_eq_true rfl) (y_recv hE rfl hW.1) rfl rfl (Nat.le_of_ble_eq_true rfl) hW ⟨(Nat.le_of_ble_eq_true rfl), (Nat.le_of_ble_eq_true rfl)⟩ ?_
    -- call isFine ['(m_isT n (nI k))']
    refine y_muV (rest := []) hE cl_X4_49 (kX4_isFine (m_isT n (nI k))) dX4_outputOf_6 hl (Nat.le_of_ble_eq_true rfl) (y_recv hE rfl hW.1) rfl rfl (Nat.le_of_ble_eq_true rfl) hW (fun _ h => h) ⟨(Nat.le_of_ble_eq_true rfl), (Nat.le_of_ble_eq_true rfl)⟩ (fun vr H hW _ _ => ?_)
    obtain ⟨hr, hW⟩ := hW
    subst hr
    have hW : tW z D m (upd g 0 (zb (!(m_isT n (nI k))))) B Bs L I C H := hW
    refine y_st (st' := [.int (zb (m_isT n (nI k)))]) rfl ?_
    refine y_if_eq (tgt := 20) hE dX4_outputOf_9 (by decide) (fun c9 => ?_) (fun c9 => ?_)
    · -- t 9
      rw [zb_0] at c9
      exact absurd c9 (by simp [hx])
    · -- f 9
      rw [zb_1] at c9
      refine y_aload_n hE dX4_outputOf_12 rfl (lv_at hl 0 rfl) ?_
      refine y_iload_n hE dX4_outputOf_13 rfl (lv_at hl 1 rfl) ?_
      -- call output ['k']
      refine y_roV (rest := []) hE cl_X4_77 (kX4_output n k (by repeat (first | exact hn | rw [upd_ne (by omega)] | rw [m_cuts_lo _ _ (by omega)] | rw [m_ticks_lo _ (by omega)] | rw [m_rels_lo _ (by omega)] | rw [m_hours_lo _ _ _ (by omega)] | rw [m_pay_lo _ _ _ (by omega)] | rw [tGo_2])) hN (by omega)) dX4_outputOf_14 hl (Nat.le_of_ble_eq_true rfl) (y_recv hE rfl hW.1) rfl rfl (Nat.le_of_ble_eq_true rfl) hW ⟨(Nat.le_of_ble_eq_true rfl), (Nat.le_of_ble_eq_true rfl)⟩ ?_
      refine y_goto (tgt := 21) hE dX4_outputOf_17 (by decide) ?_
      rw [hQ]
      exact y_iret hE dX4_outputOf_21 ⟨(by simp [q_i, q_b, q_2, q_at, q_w, zb, c9, hx, hxi]), hW.cast (by simp [q_i, q_b, q_2, q_at, q_w, zb, c9, hx, hxi]) rfl rfl rfl rfl rfl⟩ (Nat.le_of_ble_eq_true rfl) (Nat.le_of_ble_eq_true rfl)

set_option maxHeartbeats 1000000 in
theorem kX4_totalOutput {z : State} {D : yD} {m : Nat → Nat} {g B : Nat → Int32} {Bs : Nat → Nat → Int32} {L I C : Nat → Int32} (n : Nat) (hn : B 0 = nI n) (hN : n ≤ 12) : yM yX4_totalOutput (ws_ yX4_totalOutput cX4_totalOutput 1 (some .int)) (rmD 8 0 0) z D [.ref (m 0)] (tW z D m g B Bs L I C) eI (fun vr H => vr = m_total B n ∧ tW z D m (upd g 0 0) B Bs L I C H) 0 0 (tA m) := by
  refine yM_of (own := RX4) (by decide +kernel) rfl (Nat.le_of_ble_eq_true rfl) (fun H h => h.az) fun E hE hW ls hl hin => ?_
  obtain ⟨Q, hQ⟩ : ∃ Q, Q = yEm E eI (fun vr H => vr = m_total B n ∧ tW z D m (upd g 0 0) B Bs L I C H) 0 0 (tA m) := ⟨_, rfl⟩
  rw [← hQ]
  generalize (e_s E).heap = H at hW ⊢
  have hl : lv_has ls 1 [(0, .ref (m 0))] := hl
  refine y_aload_n hE dX4_totalOutput_0 rfl (lv_at hl 0 rfl) ?_
  refine y_iconst (v := 0) hE dX4_totalOutput_1 (by decide) ?_
  refine t_put (g' := upd g 0 0) hE hW 0 (by decide) q1976 rfl rfl rfl rfl rfl dX4_totalOutput_2 (fun H hW => ?_)
  refine y_aload_n hE dX4_totalOutput_5 rfl (lv_at hl 0 rfl) ?_
  -- call total []
  refine y_roV (rest := []) hE cl_X4_129 (kX4_total n (by repeat (first | exact hn | rw [upd_ne (by omega)] | rw [m_cuts_lo _ _ (by omega)] | rw [m_ticks_lo _ (by omega)] | rw [m_rels_lo _ (by omega)] | rw [m_hours_lo _ _ _ (by omega)] | rw [m_pay_lo _ _ _ (by omega)] | rw [tGo_2])) hN) dX4_totalOutput_6 hl (Nat.le_of_ble_eq_true rfl) (y_recv hE rfl hW.1) rfl rfl (Nat.le_of_ble_eq_true rfl) hW ⟨(Nat.le_of_ble_eq_true rfl), (Nat.le_of_ble_eq_true rfl)⟩ ?_
  rw [hQ]
  exact y_iret hE dX4_totalOutput_9 ⟨rfl, hW.cast rfl rfl rfl rfl rfl rfl⟩ (Nat.le_of_ble_eq_true rfl) (Nat.le_of_ble_eq_true rfl)

set_option maxHeartbeats 1000000 in
theorem kX4_totalOutputByLines {z : State} {D : yD} {m : Nat → Nat} {g B : Nat → Int32} {Bs : Nat → Nat → Int32} {L I C : Nat → Int32} (n : Nat) (hn : B 0 = nI n) (hN : n ≤ 12) : yM yX4_totalOutputByLines (ws_ yX4_totalOutputByLines cX4_totalOutputByLines 1 (some .int)) (rmD 9 0 0) z D [.ref (m 0)] (tW z D m g B Bs L I C) eI (fun vr H => vr = m_total B n ∧ tW z D m (upd g 0 0) B Bs L I C H) 0 0 (tA m) := by
  refine yM_of (own := RX4) (by decide +kernel) rfl (Nat.le_of_ble_eq_true rfl) (fun H h => h.az) fun E hE hW ls hl hin => ?_
  obtain ⟨Q, hQ⟩ : ∃ Q, Q = yEm E eI (fun vr H => vr = m_total B n ∧ tW z D m (upd g 0 0) B Bs L I C H) 0 0 (tA m) := ⟨_, rfl⟩
  rw [← hQ]
  generalize (e_s E).heap = H at hW ⊢
  have hl : lv_has ls 1 [(0, .ref (m 0))] := hl
  refine y_aload_n hE dX4_totalOutputByLines_0 rfl (lv_at hl 0 rfl) ?_
  -- call totalOutput []
  refine y_muV (rest := []) hE cl_X4_178 (kX4_totalOutput n hn hN) dX4_totalOutputByLines_1 hl (Nat.le_of_ble_eq_true rfl) (y_recv hE rfl hW.1) rfl rfl (Nat.le_of_ble_eq_true rfl) hW (fun _ h => h) ⟨(Nat.le_of_ble_eq_true rfl), (Nat.le_of_ble_eq_true rfl)⟩ (fun vr H hW _ _ => ?_)
  obtain ⟨hr, hW⟩ := hW
  subst hr
  have hW : tW z D m (upd g 0 0) B Bs L I C H := hW
  refine y_st (st' := [.int (m_total B n)]) rfl ?_
  rw [hQ]
  exact y_iret hE dX4_totalOutputByLines_4 ⟨rfl, hW.cast rfl rfl rfl rfl rfl rfl⟩ (Nat.le_of_ble_eq_true rfl) (Nat.le_of_ble_eq_true rfl)

set_option maxHeartbeats 1000000 in
theorem kX4_totalWith {z : State} {D : yD} {m : Nat → Nat} {g B : Nat → Int32} {Bs : Nat → Nat → Int32} {L I C : Nat → Int32} (n : Nat) (w : Int32) (s : Int32) (hn : B 0 = nI n) (hN : n ≤ 12) : yM yX4_totalWith (ws_ yX4_totalWith cX4_totalWith 6 (some .int)) (rmD 8 0 0) z D [.ref (m 0), .int w, .int s] (tW z D m g B Bs L I C) eI (fun vr H => vr = m_with B n w s ∧ tW z D m g B Bs L I C H) 0 0 (tA m) := by
  refine yM_of (own := RX4) (by decide +kernel) rfl (Nat.le_of_ble_eq_true rfl) (fun H h => h.az) fun E hE hW ls hl hin => ?_
  obtain ⟨Q, hQ⟩ : ∃ Q, Q = yEm E eI (fun vr H => vr = m_with B n w s ∧ tW z D m g B Bs L I C H) 0 0 (tA m) := ⟨_, rfl⟩
  rw [← hQ]
  generalize (e_s E).heap = H at hW ⊢
  have hl : lv_has ls 6 [(0, .ref (m 0)), (1, .int w), (2, .int s)] := hl
  refine y_aload_n hE dX4_totalWith_0 rfl (lv_at hl 0 rfl) ?_
  refine t_get (v := .ref (m 1)) hE 1 (by decide) q1977 rfl hW rfl dX4_totalWith_1 ?_
  refine y_iconst (v := 1) hE dX4_totalWith_4 (by decide) ?_
  refine t_aldB (j := 1) (v := B 1) hE hW (rfl) (by decide) rfl dX4_totalWith_5 ?_
  refine y_istore_n (lv' := [(3, .int (B 1)), (0, .ref (m 0)), (1, .int w), (2, .int s)]) hE dX4_totalWith_6 rfl hl (by decide) rfl (fun ls hl => ?_)
  refine y_aload_n hE dX4_totalWith_7 rfl (lv_at hl 1 rfl) ?_
  refine t_get (v := .ref (m 1)) hE 1 (by decide) q1977 rfl hW rfl dX4_totalWith_8 ?_
  refine y_iconst (v := 2) hE dX4_totalWith_11 (by decide) ?_
  refine t_aldB (j := 2) (v := B 2) hE hW (rfl) (by decide) rfl dX4_totalWith_12 ?_
  refine y_istore (lv' := [(4, .int (B 2)), (3, .int (B 1)), (0, .ref (m 0)), (1, .int w), (2, .int s)]) hE dX4_totalWith_13 hl (by decide) rfl (fun ls hl => ?_)
  refine y_aload_n hE dX4_totalWith_15 rfl (lv_at hl 2 rfl) ?_
  refine t_get (v := .ref (m 1)) hE 1 (by decide) q1977 rfl hW rfl dX4_totalWith_16 ?_
  refine y_iconst (v := 1) hE dX4_totalWith_19 (by decide) ?_
  refine y_iload_n hE dX4_totalWith_20 rfl (lv_at hl 3 rfl) ?_
  refine t_astB (j := 1) hE hW (rfl) (by decide) dX4_totalWith_21 (fun H hW => ?_)
  refine y_aload_n hE dX4_totalWith_22 rfl (lv_at hl 2 rfl) ?_
  refine t_get (v := .ref (m 1)) hE 1 (by decide) q1977 rfl hW rfl dX4_totalWith_23 ?_
  refine y_iconst (v := 2) hE dX4_totalWith_26 (by decide) ?_
  refine y_iload_n hE dX4_totalWith_27 rfl (lv_at hl 4 rfl) ?_
  refine t_astB (j := 2) hE hW (rfl) (by decide) dX4_totalWith_28 (fun H hW => ?_)
  refine y_aload_n hE dX4_totalWith_29 rfl (lv_at hl 2 rfl) ?_
  -- call total []
  refine y_roV (rest := []) hE cl_X4_129 (kX4_total n (by repeat (first | exact hn | rw [upd_ne (by omega)] | rw [m_cuts_lo _ _ (by omega)] | rw [m_ticks_lo _ (by omega)] | rw [m_rels_lo _ (by omega)] | rw [m_hours_lo _ _ _ (by omega)] | rw [m_pay_lo _ _ _ (by omega)] | rw [tGo_2])) hN) dX4_totalWith_30 hl (Nat.le_of_ble_eq_true rfl) (y_recv hE rfl hW.1) rfl rfl (Nat.le_of_ble_eq_true rfl) hW ⟨(Nat.le_of_ble_eq_true rfl), (Nat.le_of_ble_eq_true rfl)⟩ ?_
  refine y_istore (lv' := [(5, .int (m_total (upd (upd B 1 w) 2 s) n)), (4, .int (B 2)), (3, .int (B 1)), (0, .ref (m 0)), (1, .int w), (2, .int s)]) hE dX4_totalWith_33 hl (by decide) rfl (fun ls hl => ?_)
  refine y_aload_n hE dX4_totalWith_35 rfl (lv_at hl 3 rfl) ?_
  refine t_get (v := .ref (m 1)) hE 1 (by decide) q1977 rfl hW rfl dX4_totalWith_36 ?_
  refine y_iconst (v := 1) hE dX4_totalWith_39 (by decide) ?_
  refine y_iload_n hE dX4_totalWith_40 rfl (lv_at hl 2 rfl) ?_
  refine t_astB (j := 1) hE hW (rfl) (by decide) dX4_totalWith_41 (fun H hW => ?_)
  refine y_aload_n hE dX4_totalWith_42 rfl (lv_at hl 3 rfl) ?_
  refine t_get (v := .ref (m 1)) hE 1 (by decide) q1977 rfl hW rfl dX4_totalWith_43 ?_
  refine y_iconst (v := 2) hE dX4_totalWith_46 (by decide) ?_
  refine y_iload hE dX4_totalWith_47 (lv_at hl 1 rfl) ?_
  refine t_astB (j := 2) hE hW (rfl) (by decide) dX4_totalWith_49 (fun H hW => ?_)
  refine y_iload hE dX4_totalWith_50 (lv_at hl 0 rfl) ?_
  rw [hQ]
  exact y_iret hE dX4_totalWith_52 ⟨rfl, (hW.cast rfl (m_with_back _ _ _) rfl rfl rfl rfl)⟩ (Nat.le_of_ble_eq_true rfl) (Nat.le_of_ble_eq_true rfl)

set_option maxHeartbeats 1000000 in
theorem kX4_outputWith {z : State} {D : yD} {m : Nat → Nat} {g B : Nat → Int32} {Bs : Nat → Nat → Int32} {L I C : Nat → Int32} (n : Nat) (w : Int32) (s : Int32) (hn : B 0 = nI n) (hN : n ≤ 12) : yM yX4_outputWith (ws_ yX4_outputWith cX4_outputWith 3 (some .int)) (rmD 9 0 0) z D [.ref (m 0), .int w, .int s] (tW z D m g B Bs L I C) eI (fun vr H => vr = (q_w B n w s).1 ∧ tW z D m (upd g 0 (q_w B n w s).2) B Bs L I C H) 0 0 (tA m) := by
  refine yM_of (own := RX4) (by decide +kernel) rfl (Nat.le_of_ble_eq_true rfl) (fun H h => h.az) fun E hE hW ls hl hin => ?_
  obtain ⟨Q, hQ⟩ : ∃ Q, Q = yEm E eI (fun vr H => vr = (q_w B n w s).1 ∧ tW z D m (upd g 0 (q_w B n w s).2) B Bs L I C H) 0 0 (tA m) := ⟨_, rfl⟩
  rw [← hQ]
  generalize (e_s E).heap = H at hW ⊢
  have hl : lv_has ls 3 [(0, .ref (m 0)), (1, .int w), (2, .int s)] := hl
  refine y_aload_n hE dX4_outputWith_0 rfl (lv_at hl 0 rfl) ?_
  refine y_iload_n hE dX4_outputWith_1 rfl (lv_at hl 1 rfl) ?_
  -- call wayOf ['w']
  refine y_roS (rest := [.ref (m 0)]) hE cl_X4_132 (kX4_wayOf w) dX4_outputWith_2 hl (Nat.le_of_ble_eq_true rfl) rfl rfl (Nat.le_of_ble_eq_true rfl) trivial ⟨(Nat.le_of_ble_eq_true rfl), (Nat.le_of_ble_eq_true rfl)⟩ ?_
  refine y_if_lt (tgt := 22) hE dX4_outputWith_5 (by decide) (fun c5 => ?_) (fun c5 => ?_)
  · -- t 5
    have n5 := Int32.not_le.mpr c5
    refine y_iconst (v := 0) hE dX4_outputWith_22 (by decide) ?_
    -- call isFine ['false']
    refine y_muV (rest := []) hE cl_X4_49 (kX4_isFine false) dX4_outputWith_23 hl (Nat.le_of_ble_eq_true rfl) (y_recv hE rfl hW.1) rfl rfl (Nat.le_of_ble_eq_true rfl) hW (fun _ h => h) ⟨(Nat.le_of_ble_eq_true rfl), (Nat.le_of_ble_eq_true rfl)⟩ (fun vr H hW _ _ => ?_)
    obtain ⟨hr, hW⟩ := hW
    subst hr
    have hW : tW z D m (upd g 0 1) B Bs L I C H := hW
    refine y_st (st' := [.int (zb false)]) rfl ?_
    refine y_if_eq (tgt := 41) hE dX4_outputWith_26 (by decide) (fun c26 => ?_) (fun c26 => ?_)
    · -- t 26
      rw [zb_0] at c26
      refine y_iconst (v := 0) hE dX4_outputWith_41 (by decide) ?_
      rw [hQ]
      exact y_iret hE dX4_outputWith_42 ⟨(by simp [q_i, q_b, q_2, q_at, q_w, zb, c5, n5, c26]), hW.cast (by simp [q_i, q_b, q_2, q_at, q_w, zb, c5, n5, c26]) rfl rfl rfl rfl rfl⟩ (Nat.le_of_ble_eq_true rfl) (Nat.le_of_ble_eq_true rfl)
    · -- f 26
      rw [zb_1] at c26
      exact absurd c26 (by decide)
  · -- f 5
    have n5 := Int32.not_lt.mp c5
    refine y_iload_n hE dX4_outputWith_8 rfl (lv_at hl 2 rfl) ?_
    refine y_iconst (v := 0) hE dX4_outputWith_9 (by decide) ?_
    refine y_bipush (v := 30) hE dX4_outputWith_10 (by decide) ?_
    -- call in ['s', '0', '30']
    refine y_roS (rest := [.ref (m 0)]) hE cl_X4_53 (kX4_in s 0 30) dX4_outputWith_12 hl (Nat.le_of_ble_eq_true rfl) rfl rfl (Nat.le_of_ble_eq_true rfl) trivial ⟨(Nat.le_of_ble_eq_true rfl), (Nat.le_of_ble_eq_true rfl)⟩ ?_
    refine y_if_eq (tgt := 22) hE dX4_outputWith_15 (by decide) (fun c15 => ?_) (fun c15 => ?_)
    · -- t 15
      rw [zb_0] at c15
      refine y_iconst (v := 0) hE dX4_outputWith_22 (by decide) ?_
      -- call isFine ['false']
      refine y_muV (rest := []) hE cl_X4_49 (kX4_isFine false) dX4_outputWith_23 hl (Nat.le_of_ble_eq_true rfl) (y_recv hE rfl hW.1) rfl rfl (Nat.le_of_ble_eq_true rfl) hW (fun _ h => h) ⟨(Nat.le_of_ble_eq_true rfl), (Nat.le_of_ble_eq_true rfl)⟩ (fun vr H hW _ _ => ?_)
      obtain ⟨hr, hW⟩ := hW
      subst hr
      have hW : tW z D m (upd g 0 1) B Bs L I C H := hW
      refine y_st (st' := [.int (zb false)]) rfl ?_
      refine y_if_eq (tgt := 41) hE dX4_outputWith_26 (by decide) (fun c26 => ?_) (fun c26 => ?_)
      · -- t 26
        rw [zb_0] at c26
        refine y_iconst (v := 0) hE dX4_outputWith_41 (by decide) ?_
        rw [hQ]
        exact y_iret hE dX4_outputWith_42 ⟨(by simp [q_i, q_b, q_2, q_at, q_w, zb, c5, n5, c15, c26]), hW.cast (by simp [q_i, q_b, q_2, q_at, q_w, zb, c5, n5, c15, c26]) rfl rfl rfl rfl rfl⟩ (Nat.le_of_ble_eq_true rfl) (Nat.le_of_ble_eq_true rfl)
      · -- f 26
        rw [zb_1] at c26
        exact absurd c26 (by decide)
    · -- f 15
      rw [zb_1] at c15
      refine y_iconst (v := 1) hE dX4_outputWith_18 (by decide) ?_
      refine y_goto (tgt := 23) hE dX4_outputWith_19 (by decide) ?_
      -- call isFine ['true']
      refine y_muV (rest := []) hE cl_X4_49 (kX4_isFine true) dX4_outputWith_23 hl (Nat.le_of_ble_eq_true rfl) (y_recv hE rfl hW.1) rfl rfl (Nat.le_of_ble_eq_true rfl) hW (fun _ h => h) ⟨(Nat.le_of_ble_eq_true rfl), (Nat.le_of_ble_eq_true rfl)⟩ (fun vr H hW _ _ => ?_)
      obtain ⟨hr, hW⟩ := hW
      subst hr
      have hW : tW z D m (upd g 0 0) B Bs L I C H := hW
      refine y_st (st' := [.int (zb true)]) rfl ?_
      refine y_if_eq (tgt := 41) hE dX4_outputWith_26 (by decide) (fun c26 => ?_) (fun c26 => ?_)
      · -- t 26
        rw [zb_0] at c26
        exact absurd c26 (by decide)
      · -- f 26
        rw [zb_1] at c26
        refine y_aload_n hE dX4_outputWith_29 rfl (lv_at hl 0 rfl) ?_
        refine y_iload_n hE dX4_outputWith_30 rfl (lv_at hl 1 rfl) ?_
        -- call wayOf ['w']
        refine y_roS (rest := [.ref (m 0)]) hE cl_X4_132 (kX4_wayOf w) dX4_outputWith_31 hl (Nat.le_of_ble_eq_true rfl) rfl rfl (Nat.le_of_ble_eq_true rfl) trivial ⟨(Nat.le_of_ble_eq_true rfl), (Nat.le_of_ble_eq_true rfl)⟩ ?_
        refine y_iload_n hE dX4_outputWith_34 rfl (lv_at hl 2 rfl) ?_
        -- call totalWith ['m_way w', 's']
        refine y_muV (rest := []) hE cl_X4_181 (kX4_totalWith n (m_way w) s (by repeat (first | exact hn | rw [upd_ne (by omega)] | rw [m_cuts_lo _ _ (by omega)] | rw [m_ticks_lo _ (by omega)] | rw [m_rels_lo _ (by omega)] | rw [m_hours_lo _ _ _ (by omega)] | rw [m_pay_lo _ _ _ (by omega)] | rw [tGo_2])) hN) dX4_outputWith_35 hl (Nat.le_of_ble_eq_true rfl) (y_recv hE rfl hW.1) rfl rfl (Nat.le_of_ble_eq_true rfl) hW (fun _ h => h) ⟨(Nat.le_of_ble_eq_true rfl), (Nat.le_of_ble_eq_true rfl)⟩ (fun vr H hW _ _ => ?_)
        obtain ⟨hr, hW⟩ := hW
        subst hr
        have hW : tW z D m (upd g 0 0) B Bs L I C H := hW
        refine y_st (st' := [.int (m_with B n (m_way w) s)]) rfl ?_
        refine y_goto (tgt := 42) hE dX4_outputWith_38 (by decide) ?_
        rw [hQ]
        exact y_iret hE dX4_outputWith_42 ⟨(by simp [q_i, q_b, q_2, q_at, q_w, zb, c5, n5, c15, c26]), hW.cast (by simp [q_i, q_b, q_2, q_at, q_w, zb, c5, n5, c15, c26]) rfl rfl rfl rfl rfl⟩ (Nat.le_of_ble_eq_true rfl) (Nat.le_of_ble_eq_true rfl)

set_option maxHeartbeats 1000000 in
theorem kX4_bestDirection {z : State} {D : yD} {m : Nat → Nat} {g B : Nat → Int32} {Bs : Nat → Nat → Int32} {L I C : Nat → Int32} (n : Nat) (hn : B 0 = nI n) (hN : n ≤ 12) : yM yX4_bestDirection (ws_ yX4_bestDirection cX4_bestDirection 3 (some .char)) (rmD 9 0 0) z D [.ref (m 0)] (tW z D m g B Bs L I C) eI (fun vr H => vr = m_sign (nI (m_best B n 4)) ∧ tW z D m (upd g 0 0) B Bs L I C H) 0 0 (tA m) := by
  refine yM_of (own := RX4) (by decide +kernel) rfl (Nat.le_of_ble_eq_true rfl) (fun H h => h.az) fun E hE hW ls hl hin => ?_
  obtain ⟨Q, hQ⟩ : ∃ Q, Q = yEm E eI (fun vr H => vr = m_sign (nI (m_best B n 4)) ∧ tW z D m (upd g 0 0) B Bs L I C H) 0 0 (tA m) := ⟨_, rfl⟩
  rw [← hQ]
  generalize (e_s E).heap = H at hW ⊢
  have hl : lv_has ls 3 [(0, .ref (m 0))] := hl
  refine y_aload_n hE dX4_bestDirection_0 rfl (lv_at hl 0 rfl) ?_
  refine y_iconst (v := 0) hE dX4_bestDirection_1 (by decide) ?_
  refine t_put (g' := upd g 0 0) hE hW 0 (by decide) q1976 rfl rfl rfl rfl rfl dX4_bestDirection_2 (fun H hW => ?_)
  refine y_iconst (v := 0) hE dX4_bestDirection_5 (by decide) ?_
  refine y_set1 (w := nI (m_best B n 1)) (by rw [m_best_1]; rfl) ?_
  refine y_istore_n (lv' := [(1, .int (nI (m_best B n 1))), (0, .ref (m 0))]) hE dX4_bestDirection_6 rfl hl (by decide) rfl (fun ls hl => ?_)
  refine y_iconst (v := 1) hE dX4_bestDirection_7 (by decide) ?_
  refine y_istore_n (lv' := [(2, .int 1), (1, .int (nI (m_best B n 1))), (0, .ref (m 0))]) hE dX4_bestDirection_8 rfl hl (by decide) rfl (fun ls hl => ?_)
  have K9 : ∀ k : Nat, k ≤ 4 → ∀ (H : Heap) (ls : Array Slot), lv_has ls 3 [(2, .int (nI k)), (1, .int (nI (m_best B n k))), (0, .ref (m 0))] → tW z D m (upd g 0 0) B Bs L I C H → yY E (tA m) H 0 0 Q 9 ls [] := by
    refine y_loop ?_ ?_
    · -- the end of the loop at 9
      intro H ls hl hW 
      refine y_iload_n hE dX4_bestDirection_9 rfl (lv_at hl 0 rfl) ?_
      refine y_iconst (v := 4) hE dX4_bestDirection_10 (by decide) ?_
      refine y_set1 (w := nI 4) (rfl) ?_
      refine y_icmp_ge (tgt := 51) hE dX4_bestDirection_11 (by decide) (fun c11 => ?_) (fun c11 => ?_)
      · -- t 11
        have n11 := Int32.not_lt.mpr c11
        refine y_iload_n hE dX4_bestDirection_51 rfl (lv_at hl 1 rfl) ?_
        -- call signOf ['nI (m_best B n 4)']
        refine y_roS (rest := []) hE cl_X4_174 (kX4_signOf (nI (m_best B n 4))) dX4_bestDirection_52 hl (Nat.le_of_ble_eq_true rfl) rfl rfl (Nat.le_of_ble_eq_true rfl) trivial ⟨(Nat.le_of_ble_eq_true rfl), (Nat.le_of_ble_eq_true rfl)⟩ ?_
        rw [hQ]
        exact y_set1 rfl (y_zret hE (m_sign_nar _) dX4_bestDirection_55 ⟨rfl, hW.cast rfl rfl rfl rfl rfl rfl⟩ (Nat.le_of_ble_eq_true rfl) (Nat.le_of_ble_eq_true rfl))
      · -- f 11
        exact absurd (nI_le (Nat.le_refl _) (by omega)) c11
    · -- a round of the loop at 9
      intro k hk ih9 H ls hl hW 
      refine y_iload_n hE dX4_bestDirection_9 rfl (lv_at hl 0 rfl) ?_
      refine y_iconst (v := 4) hE dX4_bestDirection_10 (by decide) ?_
      refine y_set1 (w := nI 4) (rfl) ?_
      refine y_icmp_ge (tgt := 51) hE dX4_bestDirection_11 (by decide) (fun c11 => ?_) (fun c11 => ?_)
      · -- t 11
        exact absurd c11 (nI_ge hk (by omega))
      · -- f 11
        have n11 := Int32.not_le.mp c11
        refine y_aload_n hE dX4_bestDirection_14 rfl (lv_at hl 2 rfl) ?_
        refine y_iload_n hE dX4_bestDirection_15 rfl (lv_at hl 0 rfl) ?_
        refine y_aload_n hE dX4_bestDirection_16 rfl (lv_at hl 2 rfl) ?_
        refine t_get (v := .ref (m 1)) hE 1 (by decide) q1977 rfl hW rfl dX4_bestDirection_17 ?_
        refine y_iconst (v := 2) hE dX4_bestDirection_20 (by decide) ?_
        refine t_aldB (j := 2) (v := B 2) hE hW (rfl) (by decide) rfl dX4_bestDirection_21 ?_
        -- call totalWith ['nI k', 'B 2']
        refine y_muV (rest := []) hE cl_X4_181 (kX4_totalWith n (nI k) (B 2) (by repeat (first | exact hn | rw [upd_ne (by omega)] | rw [m_cuts_lo _ _ (by omega)] | rw [m_ticks_lo _ (by omega)] | rw [m_rels_lo _ (by omega)] | rw [m_hours_lo _ _ _ (by omega)] | rw [m_pay_lo _ _ _ (by omega)] | rw [tGo_2])) hN) dX4_bestDirection_22 hl (Nat.le_of_ble_eq_true rfl) (y_recv hE rfl hW.1) rfl rfl (Nat.le_of_ble_eq_true rfl) hW (fun _ h => h) ⟨(Nat.le_of_ble_eq_true rfl), (Nat.le_of_ble_eq_true rfl)⟩ (fun vr H hW _ _ => ?_)
        obtain ⟨hr, hW⟩ := hW
        subst hr
        have hW : tW z D m (upd g 0 0) B Bs L I C H := hW
        refine y_st (st' := [.int (m_with B n (nI k) (B 2))]) rfl ?_
        refine y_aload_n hE dX4_bestDirection_25 rfl (lv_at hl 2 rfl) ?_
        refine y_iload_n hE dX4_bestDirection_26 rfl (lv_at hl 1 rfl) ?_
        refine y_aload_n hE dX4_bestDirection_27 rfl (lv_at hl 2 rfl) ?_
        refine t_get (v := .ref (m 1)) hE 1 (by decide) q1977 rfl hW rfl dX4_bestDirection_28 ?_
        refine y_iconst (v := 2) hE dX4_bestDirection_31 (by decide) ?_
        refine t_aldB (j := 2) (v := B 2) hE hW (rfl) (by decide) rfl dX4_bestDirection_32 ?_
        -- call totalWith ['nI (m_best B n k)', 'B 2']
        refine y_muV (rest := [.int (m_with B n (nI k) (B 2))]) hE cl_X4_181 (kX4_totalWith n (nI (m_best B n k)) (B 2) (by repeat (first | exact hn | rw [upd_ne (by omega)] | rw [m_cuts_lo _ _ (by omega)] | rw [m_ticks_lo _ (by omega)] | rw [m_rels_lo _ (by omega)] | rw [m_hours_lo _ _ _ (by omega)] | rw [m_pay_lo _ _ _ (by omega)] | rw [tGo_2])) hN) dX4_bestDirection_33 hl (Nat.le_of_ble_eq_true rfl) (y_recv hE rfl hW.1) rfl rfl (Nat.le_of_ble_eq_true rfl) hW (fun _ h => h) ⟨(Nat.le_of_ble_eq_true rfl), (Nat.le_of_ble_eq_true rfl)⟩ (fun vr H hW _ _ => ?_)
        obtain ⟨hr, hW⟩ := hW
        subst hr
        have hW : tW z D m (upd g 0 0) B Bs L I C H := hW
        refine y_st (st' := [.int (m_with B n (nI (m_best B n k)) (B 2)), .int (m_with B n (nI k) (B 2))]) rfl ?_
        have K44 : ∀ ls : Array Slot, lv_has ls 3 [(2, .int (nI k)), (1, .int (nI (m_best B n k))), (0, .ref (m 0))] → yY E (tA m) H 0 0 Q 44 ls [.int (nI (m_best B n (k + 1)))] := by
          intro ls hl
          refine y_istore_n (lv' := [(1, .int (nI (m_best B n (k + 1)))), (2, .int (nI k)), (0, .ref (m 0))]) hE dX4_bestDirection_44 rfl hl (by decide) rfl (fun ls hl => ?_)
          refine y_iinc (v := nI (k + 1)) (lv' := [(2, .int (nI (k + 1))), (1, .int (nI (m_best B n (k + 1)))), (0, .ref (m 0))]) hE dX4_bestDirection_45 hl (k := 1) rfl (nI_1 k) (by decide) rfl (fun ls hl => ?_)
          refine y_goto (tgt := 9) hE dX4_bestDirection_48 (by decide) ?_
          exact ih9 _ _ (lv_sub hl [0, 1, 2] rfl) hW
        refine y_icmp_le (tgt := 43) hE dX4_bestDirection_36 (by decide) (fun c36 => ?_) (fun c36 => ?_)
        · -- t 36
          have n36 := Int32.not_lt.mpr c36
          refine y_iload_n hE dX4_bestDirection_43 rfl (lv_at hl 1 rfl) ?_
          exact y_set1 ((by first | exact congrArg nI (if_neg (Int32.not_lt.mpr c36)).symm | exact congrArg nI (if_pos (Int32.not_le.mp c36)).symm)) (K44 _ hl)
        · -- f 36
          have n36 := Int32.not_le.mp c36
          refine y_iload_n hE dX4_bestDirection_39 rfl (lv_at hl 0 rfl) ?_
          refine y_goto (tgt := 44) hE dX4_bestDirection_40 (by decide) ?_
          exact y_set1 ((by first | exact congrArg nI (if_neg (Int32.not_lt.mpr c36)).symm | exact congrArg nI (if_pos (Int32.not_le.mp c36)).symm)) (K44 _ hl)
  exact K9 1 (by omega) _ _ (lv_sub hl [0, 1, 2] rfl) hW

set_option maxHeartbeats 1000000 in
theorem kX4_gridLimit {z : State} {D : yD} {m : Nat → Nat} {g B : Nat → Int32} {Bs : Nat → Nat → Int32} {L I C : Nat → Int32}  : yM yX4_gridLimit (ws_ yX4_gridLimit cX4_gridLimit 1 (some .int)) (rmD 1 0 0) z D [.ref (m 0)] (tW z D m g B Bs L I C) eI (fun vr H => vr = B 3 ∧ tW z D m (upd g 0 0) B Bs L I C H) 0 0 (tA m) := by
  refine yM_of (own := RX4) (by decide +kernel) rfl (Nat.le_of_ble_eq_true rfl) (fun H h => h.az) fun E hE hW ls hl hin => ?_
  obtain ⟨Q, hQ⟩ : ∃ Q, Q = yEm E eI (fun vr H => vr = B 3 ∧ tW z D m (upd g 0 0) B Bs L I C H) 0 0 (tA m) := ⟨_, rfl⟩
  rw [← hQ]
  generalize (e_s E).heap = H at hW ⊢
  have hl : lv_has ls 1 [(0, .ref (m 0))] := hl
  refine y_aload_n hE dX4_gridLimit_0 rfl (lv_at hl 0 rfl) ?_
  refine y_iconst (v := 0) hE dX4_gridLimit_1 (by decide) ?_
  refine t_put (g' := upd g 0 0) hE hW 0 (by decide) q1976 rfl rfl rfl rfl rfl dX4_gridLimit_2 (fun H hW => ?_)
  refine y_aload_n hE dX4_gridLimit_5 rfl (lv_at hl 0 rfl) ?_
  refine t_get (v := .ref (m 1)) hE 1 (by decide) q1977 rfl hW rfl dX4_gridLimit_6 ?_
  refine y_iconst (v := 3) hE dX4_gridLimit_9 (by decide) ?_
  refine t_aldB (j := 3) (v := B 3) hE hW (rfl) (by decide) rfl dX4_gridLimit_10 ?_
  rw [hQ]
  exact y_iret hE dX4_gridLimit_11 ⟨rfl, hW.cast rfl rfl rfl rfl rfl rfl⟩ (Nat.le_of_ble_eq_true rfl) (Nat.le_of_ble_eq_true rfl)

set_option maxHeartbeats 1000000 in
theorem kX4_hasBid {z : State} {D : yD} {m : Nat → Nat} {g B : Nat → Int32} {Bs : Nat → Nat → Int32} {L I C : Nat → Int32} (x : Int32) : yM yX4_hasBid (ws_ yX4_hasBid cX4_hasBid 2 (some .boolean)) (rmD 3 0 0) z D [.ref (m 0), .int x] (tW z D m g B Bs L I C) eI (fun vr H => vr = zb (q_b (m_hr x) (fun k => decide (0 < m_price B k))).1 ∧ tW z D m (upd g 0 (q_b (m_hr x) (fun k => decide (0 < m_price B k))).2) B Bs L I C H) 0 0 (tA m) := by
  refine yM_of (own := RX4) (by decide +kernel) rfl (Nat.le_of_ble_eq_true rfl) (fun H h => h.az) fun E hE hW ls hl hin => ?_
  obtain ⟨Q, hQ⟩ : ∃ Q, Q = yEm E eI (fun vr H => vr = zb (q_b (m_hr x) (fun k => decide (0 < m_price B k))).1 ∧ tW z D m (upd g 0 (q_b (m_hr x) (fun k => decide (0 < m_price B k))).2) B Bs L I C H) 0 0 (tA m) := ⟨_, rfl⟩
  rw [← hQ]
  generalize (e_s E).heap = H at hW ⊢
  have hl : lv_has ls 2 [(0, .ref (m 0)), (1, .int x)] := hl
  rcases m_hr_or x with ⟨hx, hxi⟩ | ⟨k, hk, rfl, hx, hxi⟩
  · -- no such place
    refine y_aload_n hE dX4_hasBid_0 rfl (lv_at hl 0 rfl) ?_
    refine y_iload_n hE dX4_hasBid_1 rfl (lv_at hl 1 rfl) ?_
    -- call isHour ['x']
    refine y_roS (rest := [.ref (m 0)]) hE cl_X4_150 (kX4_isHour x) dX4_hasBid_2 hl (Nat.le_of_ble_eq_true rfl) rfl rfl (Nat.le_of_ble_eq_true rfl) trivial ⟨(Nat.le_of_ble_eq_true rfl), (Nat.le_of_ble_eq_true rfl)⟩ ?_
    -- call isFine ['(m_in x 0 23)']
    refine y_muV (rest := []) hE cl_X4_49 (kX4_isFine (m_in x 0 23)) dX4_hasBid_5 hl (Nat.le_of_ble_eq_true rfl) (y_recv hE rfl hW.1) rfl rfl (Nat.le_of_ble_eq_true rfl) hW (fun _ h => h) ⟨(Nat.le_of_ble_eq_true rfl), (Nat.le_of_ble_eq_true rfl)⟩ (fun vr H hW _ _ => ?_)
    obtain ⟨hr, hW⟩ := hW
    subst hr
    have hW : tW z D m (upd g 0 (zb (!(m_in x 0 23)))) B Bs L I C H := hW
    refine y_st (st' := [.int (zb (m_in x 0 23))]) rfl ?_
    refine y_if_eq (tgt := 23) hE dX4_hasBid_8 (by decide) (fun c8 => ?_) (fun c8 => ?_)
    · -- t 8
      rw [zb_0] at c8
      refine y_iconst (v := 0) hE dX4_hasBid_23 (by decide) ?_
      rw [hQ]
      exact y_set1 (by simp [q_i, q_b, q_2, q_at, q_w, zb, c8, hx, hxi]) (y_zret hE (zb_nar _) dX4_hasBid_24 ⟨rfl, hW.cast (by simp [q_i, q_b, q_2, q_at, q_w, zb, c8, hx, hxi]) rfl rfl rfl rfl rfl⟩ (Nat.le_of_ble_eq_true rfl) (Nat.le_of_ble_eq_true rfl))
    · -- f 8
      rw [zb_1] at c8
      exact absurd c8 (by simp [hx])
  · -- a place
    have hl : lv_has ls 2 [(0, .ref (m 0)), (1, .int (nI k))] := hl
    refine y_aload_n hE dX4_hasBid_0 rfl (lv_at hl 0 rfl) ?_
    refine y_iload_n hE dX4_hasBid_1 rfl (lv_at hl 1 rfl) ?_
    -- call isHour ['nI k']
    refine y_roS (rest := [.ref (m 0)]) hE cl_X4_150 (kX4_isHour (nI k)) dX4_hasBid_2 hl (Nat.le_of_ble_eq_true rfl) rfl rfl (Nat.le_of_ble_eq_true rfl) trivial ⟨(Nat.le_of_ble_eq_true rfl), (Nat.le_of_ble_eq_true rfl)⟩ ?_
    -- call isFine ['(m_in (nI k) 0 23)']
    refine y_muV (rest := []) hE cl_X4_49 (kX4_isFine (m_in (nI k) 0 23)) dX4_hasBid_5 hl (Nat.le_of_ble_eq_true rfl) (y_recv hE rfl hW.1) rfl rfl (Nat.le_of_ble_eq_true rfl) hW (fun _ h => h) ⟨(Nat.le_of_ble_eq_true rfl), (Nat.le_of_ble_eq_true rfl)⟩ (fun vr H hW _ _ => ?_)
    obtain ⟨hr, hW⟩ := hW
    subst hr
    have hW : tW z D m (upd g 0 (zb (!(m_in (nI k) 0 23)))) B Bs L I C H := hW
    refine y_st (st' := [.int (zb (m_in (nI k) 0 23))]) rfl ?_
    refine y_if_eq (tgt := 23) hE dX4_hasBid_8 (by decide) (fun c8 => ?_) (fun c8 => ?_)
    · -- t 8
      rw [zb_0] at c8
      exact absurd c8 (by simp [hx])
    · -- f 8
      rw [zb_1] at c8
      refine y_aload_n hE dX4_hasBid_11 rfl (lv_at hl 0 rfl) ?_
      refine y_iload_n hE dX4_hasBid_12 rfl (lv_at hl 1 rfl) ?_
      -- call price ['k']
      refine y_roV (rest := []) hE cl_X4_147 (kX4_price k (by omega)) dX4_hasBid_13 hl (Nat.le_of_ble_eq_true rfl) (y_recv hE rfl hW.1) rfl rfl (Nat.le_of_ble_eq_true rfl) hW ⟨(Nat.le_of_ble_eq_true rfl), (Nat.le_of_ble_eq_true rfl)⟩ ?_
      refine y_if_le (tgt := 23) hE dX4_hasBid_16 (by decide) (fun c16 => ?_) (fun c16 => ?_)
      · -- t 16
        have n16 := Int32.not_lt.mpr c16
        refine y_iconst (v := 0) hE dX4_hasBid_23 (by decide) ?_
        rw [hQ]
        exact y_set1 (by simp [q_i, q_b, q_2, q_at, q_w, zb, c8, c16, n16, hx, hxi]) (y_zret hE (zb_nar _) dX4_hasBid_24 ⟨rfl, hW.cast (by simp [q_i, q_b, q_2, q_at, q_w, zb, c8, c16, n16, hx, hxi]) rfl rfl rfl rfl rfl⟩ (Nat.le_of_ble_eq_true rfl) (Nat.le_of_ble_eq_true rfl))
      · -- f 16
        have n16 := Int32.not_le.mp c16
        refine y_iconst (v := 1) hE dX4_hasBid_19 (by decide) ?_
        refine y_goto (tgt := 24) hE dX4_hasBid_20 (by decide) ?_
        rw [hQ]
        exact y_set1 (by simp [q_i, q_b, q_2, q_at, q_w, zb, c8, c16, n16, hx, hxi]) (y_zret hE (zb_nar _) dX4_hasBid_24 ⟨rfl, hW.cast (by simp [q_i, q_b, q_2, q_at, q_w, zb, c8, c16, n16, hx, hxi]) rfl rfl rfl rfl rfl⟩ (Nat.le_of_ble_eq_true rfl) (Nat.le_of_ble_eq_true rfl))

set_option maxHeartbeats 1000000 in
theorem kX4_isBid {z : State} {D : yD} {m : Nat → Nat} {g B : Nat → Int32} {Bs : Nat → Nat → Int32} {L I C : Nat → Int32} (x : Int32) : yM yX4_isBid (ws_ yX4_isBid cX4_isBid 2 (some .boolean)) (rmD 3 0 0) z D [.ref (m 0), .int x] (tW z D m g B Bs L I C) eI (fun vr H => vr = zb (decide ((q_2 (m_hr x) (fun k => decide (m_price B k = 0)) (fun k => 0)).2 = 0)) ∧ tW z D m (upd g 0 (q_2 (m_hr x) (fun k => decide (m_price B k = 0)) (fun k => 0)).2) B Bs L I C H) 0 0 (tA m) := by
  refine yM_of (own := RX4) (by decide +kernel) rfl (Nat.le_of_ble_eq_true rfl) (fun H h => h.az) fun E hE hW ls hl hin => ?_
  obtain ⟨Q, hQ⟩ : ∃ Q, Q = yEm E eI (fun vr H => vr = zb (decide ((q_2 (m_hr x) (fun k => decide (m_price B k = 0)) (fun k => 0)).2 = 0)) ∧ tW z D m (upd g 0 (q_2 (m_hr x) (fun k => decide (m_price B k = 0)) (fun k => 0)).2) B Bs L I C H) 0 0 (tA m) := ⟨_, rfl⟩
  rw [← hQ]
  generalize (e_s E).heap = H at hW ⊢
  have hl : lv_has ls 2 [(0, .ref (m 0)), (1, .int x)] := hl
  rcases m_hr_or x with ⟨hx, hxi⟩ | ⟨k, hk, rfl, hx, hxi⟩
  · -- no such place
    refine y_aload_n hE dX4_isBid_0 rfl (lv_at hl 0 rfl) ?_
    refine y_iload_n hE dX4_isBid_1 rfl (lv_at hl 1 rfl) ?_
    -- call isHour ['x']
    refine y_roS (rest := [.ref (m 0)]) hE cl_X4_150 (kX4_isHour x) dX4_isBid_2 hl (Nat.le_of_ble_eq_true rfl) rfl rfl (Nat.le_of_ble_eq_true rfl) trivial ⟨(Nat.le_of_ble_eq_true rfl), (Nat.le_of_ble_eq_true rfl)⟩ ?_
    refine y_if_ne (tgt := 12) hE dX4_isBid_5 (by decide) (fun c5 => ?_) (fun c5 => ?_)
    · -- t 5
      rw [zb_1] at c5
      exact absurd c5 (by simp [hx])
    · -- f 5
      rw [zb_0] at c5
      refine y_iconst (v := 1) hE dX4_isBid_8 (by decide) ?_
      refine y_goto (tgt := 25) hE dX4_isBid_9 (by decide) ?_
      refine t_put (g' := upd g 0 1) hE hW 0 (by decide) q1976 rfl rfl rfl rfl rfl dX4_isBid_25 (fun H hW => ?_)
      refine y_aload_n hE dX4_isBid_28 rfl (lv_at hl 0 rfl) ?_
      refine t_get (v := .int 1) hE 0 (by decide) q1976 rfl hW rfl dX4_isBid_29 ?_
      refine y_if_ne (tgt := 39) hE dX4_isBid_32 (by decide) (fun c32 => ?_) (fun c32 => ?_)
      · -- t 32
        refine y_iconst (v := 0) hE dX4_isBid_39 (by decide) ?_
        rw [hQ]
        exact y_set1 (by simp [q_i, q_b, q_2, q_at, q_w, zb, c5, c32, hx, hxi]) (y_zret hE (zb_nar _) dX4_isBid_40 ⟨rfl, hW.cast (by simp [q_i, q_b, q_2, q_at, q_w, zb, c5, c32, hx, hxi]) rfl rfl rfl rfl rfl⟩ (Nat.le_of_ble_eq_true rfl) (Nat.le_of_ble_eq_true rfl))
      · -- f 32
        exact absurd c32 (by decide)
  · -- a place
    have hl : lv_has ls 2 [(0, .ref (m 0)), (1, .int (nI k))] := hl
    refine y_aload_n hE dX4_isBid_0 rfl (lv_at hl 0 rfl) ?_
    refine y_iload_n hE dX4_isBid_1 rfl (lv_at hl 1 rfl) ?_
    -- call isHour ['nI k']
    refine y_roS (rest := [.ref (m 0)]) hE cl_X4_150 (kX4_isHour (nI k)) dX4_isBid_2 hl (Nat.le_of_ble_eq_true rfl) rfl rfl (Nat.le_of_ble_eq_true rfl) trivial ⟨(Nat.le_of_ble_eq_true rfl), (Nat.le_of_ble_eq_true rfl)⟩ ?_
    refine y_if_ne (tgt := 12) hE dX4_isBid_5 (by decide) (fun c5 => ?_) (fun c5 => ?_)
    · -- t 5
      rw [zb_1] at c5
      refine y_aload_n hE dX4_isBid_12 rfl (lv_at hl 0 rfl) ?_
      refine y_iload_n hE dX4_isBid_13 rfl (lv_at hl 1 rfl) ?_
      -- call price ['k']
      refine y_roV (rest := [.ref (m 0)]) hE cl_X4_147 (kX4_price k (by omega)) dX4_isBid_14 hl (Nat.le_of_ble_eq_true rfl) (y_recv hE rfl hW.1) rfl rfl (Nat.le_of_ble_eq_true rfl) hW ⟨(Nat.le_of_ble_eq_true rfl), (Nat.le_of_ble_eq_true rfl)⟩ ?_
      refine y_if_ne (tgt := 24) hE dX4_isBid_17 (by decide) (fun c17 => ?_) (fun c17 => ?_)
      · -- t 17
        refine y_iconst (v := 0) hE dX4_isBid_24 (by decide) ?_
        refine t_put (g' := upd g 0 0) hE hW 0 (by decide) q1976 rfl rfl rfl rfl rfl dX4_isBid_25 (fun H hW => ?_)
        refine y_aload_n hE dX4_isBid_28 rfl (lv_at hl 0 rfl) ?_
        refine t_get (v := .int 0) hE 0 (by decide) q1976 rfl hW rfl dX4_isBid_29 ?_
        refine y_if_ne (tgt := 39) hE dX4_isBid_32 (by decide) (fun c32 => ?_) (fun c32 => ?_)
        · -- t 32
          exact absurd c32 (by decide)
        · -- f 32
          refine y_iconst (v := 1) hE dX4_isBid_35 (by decide) ?_
          refine y_goto (tgt := 40) hE dX4_isBid_36 (by decide) ?_
          rw [hQ]
          exact y_set1 (by simp [q_i, q_b, q_2, q_at, q_w, zb, c5, c17, c32, hx, hxi]) (y_zret hE (zb_nar _) dX4_isBid_40 ⟨rfl, hW.cast (by simp [q_i, q_b, q_2, q_at, q_w, zb, c5, c17, c32, hx, hxi]) rfl rfl rfl rfl rfl⟩ (Nat.le_of_ble_eq_true rfl) (Nat.le_of_ble_eq_true rfl))
      · -- f 17
        refine y_iconst (v := 2) hE dX4_isBid_20 (by decide) ?_
        refine y_goto (tgt := 25) hE dX4_isBid_21 (by decide) ?_
        refine t_put (g' := upd g 0 2) hE hW 0 (by decide) q1976 rfl rfl rfl rfl rfl dX4_isBid_25 (fun H hW => ?_)
        refine y_aload_n hE dX4_isBid_28 rfl (lv_at hl 0 rfl) ?_
        refine t_get (v := .int 2) hE 0 (by decide) q1976 rfl hW rfl dX4_isBid_29 ?_
        refine y_if_ne (tgt := 39) hE dX4_isBid_32 (by decide) (fun c32 => ?_) (fun c32 => ?_)
        · -- t 32
          refine y_iconst (v := 0) hE dX4_isBid_39 (by decide) ?_
          rw [hQ]
          exact y_set1 (by simp [q_i, q_b, q_2, q_at, q_w, zb, c5, c17, c32, hx, hxi]) (y_zret hE (zb_nar _) dX4_isBid_40 ⟨rfl, hW.cast (by simp [q_i, q_b, q_2, q_at, q_w, zb, c5, c17, c32, hx, hxi]) rfl rfl rfl rfl rfl⟩ (Nat.le_of_ble_eq_true rfl) (Nat.le_of_ble_eq_true rfl))
        · -- f 32
          exact absurd c32 (by decide)
    · -- f 5
      rw [zb_0] at c5
      exact absurd c5 (by simp [hx])

set_option maxHeartbeats 1000000 in
theorem kX4_bidPrice {z : State} {D : yD} {m : Nat → Nat} {g B : Nat → Int32} {Bs : Nat → Nat → Int32} {L I C : Nat → Int32} (x : Int32) : yM yX4_bidPrice (ws_ yX4_bidPrice cX4_bidPrice 2 (some .int)) (rmD 4 0 0) z D [.ref (m 0), .int x] (tW z D m g B Bs L I C) eI (fun vr H => vr = (q_2 (m_hr x) (fun k => decide (m_price B k = 0)) (fun k => m_price B k)).1 ∧ tW z D m (upd g 0 (q_2 (m_hr x) (fun k => decide (m_price B k = 0)) (fun k => m_price B k)).2) B Bs L I C H) 0 0 (tA m) := by
  refine yM_of (own := RX4) (by decide +kernel) rfl (Nat.le_of_ble_eq_true rfl) (fun H h => h.az) fun E hE hW ls hl hin => ?_
  obtain ⟨Q, hQ⟩ : ∃ Q, Q = yEm E eI (fun vr H => vr = (q_2 (m_hr x) (fun k => decide (m_price B k = 0)) (fun k => m_price B k)).1 ∧ tW z D m (upd g 0 (q_2 (m_hr x) (fun k => decide (m_price B k = 0)) (fun k => m_price B k)).2) B Bs L I C H) 0 0 (tA m) := ⟨_, rfl⟩
  rw [← hQ]
  generalize (e_s E).heap = H at hW ⊢
  have hl : lv_has ls 2 [(0, .ref (m 0)), (1, .int x)] := hl
  rcases m_hr_or x with ⟨hx, hxi⟩ | ⟨k, hk, rfl, hx, hxi⟩
  · -- no such place
    refine y_aload_n hE dX4_bidPrice_0 rfl (lv_at hl 0 rfl) ?_
    refine y_iload_n hE dX4_bidPrice_1 rfl (lv_at hl 1 rfl) ?_
    -- call isBid ['x']
    refine y_muV (rest := []) hE cl_X4_184 (kX4_isBid x) dX4_bidPrice_2 hl (Nat.le_of_ble_eq_true rfl) (y_recv hE rfl hW.1) rfl rfl (Nat.le_of_ble_eq_true rfl) hW (fun _ h => h) ⟨(Nat.le_of_ble_eq_true rfl), (Nat.le_of_ble_eq_true rfl)⟩ (fun vr H hW _ _ => ?_)
    obtain ⟨hr, hW⟩ := hW
    subst hr
    have hW : tW z D m (upd g 0 (q_2 (m_hr x) (fun k => decide (m_price B k = 0)) (fun k => 0)).2) B Bs L I C H := hW
    refine y_st (st' := [.int (zb (decide ((q_2 (m_hr x) (fun k => decide (m_price B k = 0)) (fun k => 0)).2 = 0)))]) rfl ?_
    refine y_if_eq (tgt := 16) hE dX4_bidPrice_5 (by decide) (fun c5 => ?_) (fun c5 => ?_)
    · -- t 5
      rw [zb_0] at c5
      refine y_iconst (v := 0) hE dX4_bidPrice_16 (by decide) ?_
      rw [hQ]
      exact y_iret hE dX4_bidPrice_17 ⟨(by simp [q_2, hxi]), hW.cast (by simp [q_2, hxi]) rfl rfl rfl rfl rfl⟩ (Nat.le_of_ble_eq_true rfl) (Nat.le_of_ble_eq_true rfl)
    · -- f 5
      rw [zb_1] at c5
      exact absurd c5 (by simp [q_2, hxi])
  · -- a place
    have hl : lv_has ls 2 [(0, .ref (m 0)), (1, .int (nI k))] := hl
    refine y_aload_n hE dX4_bidPrice_0 rfl (lv_at hl 0 rfl) ?_
    refine y_iload_n hE dX4_bidPrice_1 rfl (lv_at hl 1 rfl) ?_
    -- call isBid ['nI k']
    refine y_muV (rest := []) hE cl_X4_184 (kX4_isBid (nI k)) dX4_bidPrice_2 hl (Nat.le_of_ble_eq_true rfl) (y_recv hE rfl hW.1) rfl rfl (Nat.le_of_ble_eq_true rfl) hW (fun _ h => h) ⟨(Nat.le_of_ble_eq_true rfl), (Nat.le_of_ble_eq_true rfl)⟩ (fun vr H hW _ _ => ?_)
    obtain ⟨hr, hW⟩ := hW
    subst hr
    have hW : tW z D m (upd g 0 (q_2 (m_hr (nI k)) (fun k => decide (m_price B k = 0)) (fun k => 0)).2) B Bs L I C H := hW
    refine y_st (st' := [.int (zb (decide ((q_2 (m_hr (nI k)) (fun k => decide (m_price B k = 0)) (fun k => 0)).2 = 0)))]) rfl ?_
    refine y_if_eq (tgt := 16) hE dX4_bidPrice_5 (by decide) (fun c5 => ?_) (fun c5 => ?_)
    · -- t 5
      rw [zb_0] at c5
      refine y_iconst (v := 0) hE dX4_bidPrice_16 (by decide) ?_
      rw [hQ]
      exact y_iret hE dX4_bidPrice_17 ⟨(by by_cases h0 : m_price B k = 0 <;> simp_all [q_2]), hW.cast (by by_cases h0 : m_price B k = 0 <;> simp_all [q_2]) rfl rfl rfl rfl rfl⟩ (Nat.le_of_ble_eq_true rfl) (Nat.le_of_ble_eq_true rfl)
    · -- f 5
      rw [zb_1] at c5
      refine y_aload_n hE dX4_bidPrice_8 rfl (lv_at hl 0 rfl) ?_
      refine y_iload_n hE dX4_bidPrice_9 rfl (lv_at hl 1 rfl) ?_
      -- call price ['k']
      refine y_roV (rest := []) hE cl_X4_147 (kX4_price k (by omega)) dX4_bidPrice_10 hl (Nat.le_of_ble_eq_true rfl) (y_recv hE rfl hW.1) rfl rfl (Nat.le_of_ble_eq_true rfl) hW ⟨(Nat.le_of_ble_eq_true rfl), (Nat.le_of_ble_eq_true rfl)⟩ ?_
      refine y_goto (tgt := 17) hE dX4_bidPrice_13 (by decide) ?_
      rw [hQ]
      exact y_iret hE dX4_bidPrice_17 ⟨(by by_cases h0 : m_price B k = 0 <;> simp_all [q_2]), hW.cast (by by_cases h0 : m_price B k = 0 <;> simp_all [q_2]) rfl rfl rfl rfl rfl⟩ (Nat.le_of_ble_eq_true rfl) (Nat.le_of_ble_eq_true rfl)

set_option maxHeartbeats 1000000 in
theorem kX4_bidQuantity {z : State} {D : yD} {m : Nat → Nat} {g B : Nat → Int32} {Bs : Nat → Nat → Int32} {L I C : Nat → Int32} (x : Int32) : yM yX4_bidQuantity (ws_ yX4_bidQuantity cX4_bidQuantity 2 (some .int)) (rmD 4 0 0) z D [.ref (m 0), .int x] (tW z D m g B Bs L I C) eI (fun vr H => vr = (q_2 (m_hr x) (fun k => decide (m_price B k = 0)) (fun k => m_quan B k)).1 ∧ tW z D m (upd g 0 (q_2 (m_hr x) (fun k => decide (m_price B k = 0)) (fun k => m_quan B k)).2) B Bs L I C H) 0 0 (tA m) := by
  refine yM_of (own := RX4) (by decide +kernel) rfl (Nat.le_of_ble_eq_true rfl) (fun H h => h.az) fun E hE hW ls hl hin => ?_
  obtain ⟨Q, hQ⟩ : ∃ Q, Q = yEm E eI (fun vr H => vr = (q_2 (m_hr x) (fun k => decide (m_price B k = 0)) (fun k => m_quan B k)).1 ∧ tW z D m (upd g 0 (q_2 (m_hr x) (fun k => decide (m_price B k = 0)) (fun k => m_quan B k)).2) B Bs L I C H) 0 0 (tA m) := ⟨_, rfl⟩
  rw [← hQ]
  generalize (e_s E).heap = H at hW ⊢
  have hl : lv_has ls 2 [(0, .ref (m 0)), (1, .int x)] := hl
  rcases m_hr_or x with ⟨hx, hxi⟩ | ⟨k, hk, rfl, hx, hxi⟩
  · -- no such place
    refine y_aload_n hE dX4_bidQuantity_0 rfl (lv_at hl 0 rfl) ?_
    refine y_iload_n hE dX4_bidQuantity_1 rfl (lv_at hl 1 rfl) ?_
    -- call isBid ['x']
    refine y_muV (rest := []) hE cl_X4_184 (kX4_isBid x) dX4_bidQuantity_2 hl (Nat.le_of_ble_eq_true rfl) (y_recv hE rfl hW.1) rfl rfl (Nat.le_of_ble_eq_true rfl) hW (fun _ h => h) ⟨(Nat.le_of_ble_eq_true rfl), (Nat.le_of_ble_eq_true rfl)⟩ (fun vr H hW _ _ => ?_)
    obtain ⟨hr, hW⟩ := hW
    subst hr
    have hW : tW z D m (upd g 0 (q_2 (m_hr x) (fun k => decide (m_price B k = 0)) (fun k => 0)).2) B Bs L I C H := hW
    refine y_st (st' := [.int (zb (decide ((q_2 (m_hr x) (fun k => decide (m_price B k = 0)) (fun k => 0)).2 = 0)))]) rfl ?_
    refine y_if_eq (tgt := 16) hE dX4_bidQuantity_5 (by decide) (fun c5 => ?_) (fun c5 => ?_)
    · -- t 5
      rw [zb_0] at c5
      refine y_iconst (v := 0) hE dX4_bidQuantity_16 (by decide) ?_
      rw [hQ]
      exact y_iret hE dX4_bidQuantity_17 ⟨(by simp [q_2, hxi]), hW.cast (by simp [q_2, hxi]) rfl rfl rfl rfl rfl⟩ (Nat.le_of_ble_eq_true rfl) (Nat.le_of_ble_eq_true rfl)
    · -- f 5
      rw [zb_1] at c5
      exact absurd c5 (by simp [q_2, hxi])
  · -- a place
    have hl : lv_has ls 2 [(0, .ref (m 0)), (1, .int (nI k))] := hl
    refine y_aload_n hE dX4_bidQuantity_0 rfl (lv_at hl 0 rfl) ?_
    refine y_iload_n hE dX4_bidQuantity_1 rfl (lv_at hl 1 rfl) ?_
    -- call isBid ['nI k']
    refine y_muV (rest := []) hE cl_X4_184 (kX4_isBid (nI k)) dX4_bidQuantity_2 hl (Nat.le_of_ble_eq_true rfl) (y_recv hE rfl hW.1) rfl rfl (Nat.le_of_ble_eq_true rfl) hW (fun _ h => h) ⟨(Nat.le_of_ble_eq_true rfl), (Nat.le_of_ble_eq_true rfl)⟩ (fun vr H hW _ _ => ?_)
    obtain ⟨hr, hW⟩ := hW
    subst hr
    have hW : tW z D m (upd g 0 (q_2 (m_hr (nI k)) (fun k => decide (m_price B k = 0)) (fun k => 0)).2) B Bs L I C H := hW
    refine y_st (st' := [.int (zb (decide ((q_2 (m_hr (nI k)) (fun k => decide (m_price B k = 0)) (fun k => 0)).2 = 0)))]) rfl ?_
    refine y_if_eq (tgt := 16) hE dX4_bidQuantity_5 (by decide) (fun c5 => ?_) (fun c5 => ?_)
    · -- t 5
      rw [zb_0] at c5
      refine y_iconst (v := 0) hE dX4_bidQuantity_16 (by decide) ?_
      rw [hQ]
      exact y_iret hE dX4_bidQuantity_17 ⟨(by by_cases h0 : m_price B k = 0 <;> simp_all [q_2]), hW.cast (by by_cases h0 : m_price B k = 0 <;> simp_all [q_2]) rfl rfl rfl rfl rfl⟩ (Nat.le_of_ble_eq_true rfl) (Nat.le_of_ble_eq_true rfl)
    · -- f 5
      rw [zb_1] at c5
      refine y_aload_n hE dX4_bidQuantity_8 rfl (lv_at hl 0 rfl) ?_
      refine y_iload_n hE dX4_bidQuantity_9 rfl (lv_at hl 1 rfl) ?_
      -- call quantity ['k']
      refine y_roV (rest := []) hE cl_X4_159 (kX4_quantity k (by omega)) dX4_bidQuantity_10 hl (Nat.le_of_ble_eq_true rfl) (y_recv hE rfl hW.1) rfl rfl (Nat.le_of_ble_eq_true rfl) hW ⟨(Nat.le_of_ble_eq_true rfl), (Nat.le_of_ble_eq_true rfl)⟩ ?_
      refine y_goto (tgt := 17) hE dX4_bidQuantity_13 (by decide) ?_
      rw [hQ]
      exact y_iret hE dX4_bidQuantity_17 ⟨(by by_cases h0 : m_price B k = 0 <;> simp_all [q_2]), hW.cast (by by_cases h0 : m_price B k = 0 <;> simp_all [q_2]) rfl rfl rfl rfl rfl⟩ (Nat.le_of_ble_eq_true rfl) (Nat.le_of_ble_eq_true rfl)

set_option maxHeartbeats 1000000 in
theorem kX4_time {z : State} {D : yD} {m : Nat → Nat} {g B : Nat → Int32} {Bs : Nat → Nat → Int32} {L I C : Nat → Int32}  : yM yX4_time (ws_ yX4_time cX4_time 1 (some .int)) (rmD 1 0 0) z D [.ref (m 0)] (tW z D m g B Bs L I C) eI (fun vr H => vr = B 4 ∧ tW z D m (upd g 0 0) B Bs L I C H) 0 0 (tA m) := by
  refine yM_of (own := RX4) (by decide +kernel) rfl (Nat.le_of_ble_eq_true rfl) (fun H h => h.az) fun E hE hW ls hl hin => ?_
  obtain ⟨Q, hQ⟩ : ∃ Q, Q = yEm E eI (fun vr H => vr = B 4 ∧ tW z D m (upd g 0 0) B Bs L I C H) 0 0 (tA m) := ⟨_, rfl⟩
  rw [← hQ]
  generalize (e_s E).heap = H at hW ⊢
  have hl : lv_has ls 1 [(0, .ref (m 0))] := hl
  refine y_aload_n hE dX4_time_0 rfl (lv_at hl 0 rfl) ?_
  refine y_iconst (v := 0) hE dX4_time_1 (by decide) ?_
  refine t_put (g' := upd g 0 0) hE hW 0 (by decide) q1976 rfl rfl rfl rfl rfl dX4_time_2 (fun H hW => ?_)
  refine y_aload_n hE dX4_time_5 rfl (lv_at hl 0 rfl) ?_
  refine t_get (v := .ref (m 1)) hE 1 (by decide) q1977 rfl hW rfl dX4_time_6 ?_
  refine y_iconst (v := 4) hE dX4_time_9 (by decide) ?_
  refine t_aldB (j := 4) (v := B 4) hE hW (rfl) (by decide) rfl dX4_time_10 ?_
  rw [hQ]
  exact y_iret hE dX4_time_11 ⟨rfl, hW.cast rfl rfl rfl rfl rfl rfl⟩ (Nat.le_of_ble_eq_true rfl) (Nat.le_of_ble_eq_true rfl)

set_option maxHeartbeats 1000000 in
theorem kX4_energyMade {z : State} {D : yD} {m : Nat → Nat} {g B : Nat → Int32} {Bs : Nat → Nat → Int32} {L I C : Nat → Int32}  : yM yX4_energyMade (ws_ yX4_energyMade cX4_energyMade 1 (some .long)) (rmD 1 0 0) z D [.ref (m 0)] (tW z D m g B Bs L I C) eL (fun vr H => vr = (B 5).toInt64 ∧ tW z D m (upd g 0 0) B Bs L I C H) 0 0 (tA m) := by
  refine yM_of (own := RX4) (by decide +kernel) rfl (Nat.le_of_ble_eq_true rfl) (fun H h => h.az) fun E hE hW ls hl hin => ?_
  obtain ⟨Q, hQ⟩ : ∃ Q, Q = yEm E eL (fun vr H => vr = (B 5).toInt64 ∧ tW z D m (upd g 0 0) B Bs L I C H) 0 0 (tA m) := ⟨_, rfl⟩
  rw [← hQ]
  generalize (e_s E).heap = H at hW ⊢
  have hl : lv_has ls 1 [(0, .ref (m 0))] := hl
  refine y_aload_n hE dX4_energyMade_0 rfl (lv_at hl 0 rfl) ?_
  refine y_iconst (v := 0) hE dX4_energyMade_1 (by decide) ?_
  refine t_put (g' := upd g 0 0) hE hW 0 (by decide) q1976 rfl rfl rfl rfl rfl dX4_energyMade_2 (fun H hW => ?_)
  refine y_aload_n hE dX4_energyMade_5 rfl (lv_at hl 0 rfl) ?_
  refine t_get (v := .ref (m 1)) hE 1 (by decide) q1977 rfl hW rfl dX4_energyMade_6 ?_
  refine y_iconst (v := 5) hE dX4_energyMade_9 (by decide) ?_
  refine t_aldB (j := 5) (v := B 5) hE hW (rfl) (by decide) rfl dX4_energyMade_10 ?_
  refine y_i2l hE dX4_energyMade_11 rfl ?_
  rw [hQ]
  exact y_lret hE dX4_energyMade_12 ⟨rfl, hW.cast rfl rfl rfl rfl rfl rfl⟩ (Nat.le_of_ble_eq_true rfl) (Nat.le_of_ble_eq_true rfl)

set_option maxHeartbeats 1000000 in
theorem kX4_energyLost {z : State} {D : yD} {m : Nat → Nat} {g B : Nat → Int32} {Bs : Nat → Nat → Int32} {L I C : Nat → Int32}  : yM yX4_energyLost (ws_ yX4_energyLost cX4_energyLost 1 (some .long)) (rmD 1 0 0) z D [.ref (m 0)] (tW z D m g B Bs L I C) eL (fun vr H => vr = (B 6).toInt64 ∧ tW z D m (upd g 0 0) B Bs L I C H) 0 0 (tA m) := by
  refine yM_of (own := RX4) (by decide +kernel) rfl (Nat.le_of_ble_eq_true rfl) (fun H h => h.az) fun E hE hW ls hl hin => ?_
  obtain ⟨Q, hQ⟩ : ∃ Q, Q = yEm E eL (fun vr H => vr = (B 6).toInt64 ∧ tW z D m (upd g 0 0) B Bs L I C H) 0 0 (tA m) := ⟨_, rfl⟩
  rw [← hQ]
  generalize (e_s E).heap = H at hW ⊢
  have hl : lv_has ls 1 [(0, .ref (m 0))] := hl
  refine y_aload_n hE dX4_energyLost_0 rfl (lv_at hl 0 rfl) ?_
  refine y_iconst (v := 0) hE dX4_energyLost_1 (by decide) ?_
  refine t_put (g' := upd g 0 0) hE hW 0 (by decide) q1976 rfl rfl rfl rfl rfl dX4_energyLost_2 (fun H hW => ?_)
  refine y_aload_n hE dX4_energyLost_5 rfl (lv_at hl 0 rfl) ?_
  refine t_get (v := .ref (m 1)) hE 1 (by decide) q1977 rfl hW rfl dX4_energyLost_6 ?_
  refine y_bipush (v := 6) hE dX4_energyLost_9 (by decide) ?_
  refine t_aldB (j := 6) (v := B 6) hE hW (rfl) (by decide) rfl dX4_energyLost_11 ?_
  refine y_i2l hE dX4_energyLost_12 rfl ?_
  rw [hQ]
  exact y_lret hE dX4_energyLost_13 ⟨rfl, hW.cast rfl rfl rfl rfl rfl rfl⟩ (Nat.le_of_ble_eq_true rfl) (Nat.le_of_ble_eq_true rfl)

set_option maxHeartbeats 1000000 in
theorem kX4_energySold {z : State} {D : yD} {m : Nat → Nat} {g B : Nat → Int32} {Bs : Nat → Nat → Int32} {L I C : Nat → Int32}  : yM yX4_energySold (ws_ yX4_energySold cX4_energySold 1 (some .long)) (rmD 1 0 0) z D [.ref (m 0)] (tW z D m g B Bs L I C) eL (fun vr H => vr = (B 7).toInt64 ∧ tW z D m (upd g 0 0) B Bs L I C H) 0 0 (tA m) := by
  refine yM_of (own := RX4) (by decide +kernel) rfl (Nat.le_of_ble_eq_true rfl) (fun H h => h.az) fun E hE hW ls hl hin => ?_
  obtain ⟨Q, hQ⟩ : ∃ Q, Q = yEm E eL (fun vr H => vr = (B 7).toInt64 ∧ tW z D m (upd g 0 0) B Bs L I C H) 0 0 (tA m) := ⟨_, rfl⟩
  rw [← hQ]
  generalize (e_s E).heap = H at hW ⊢
  have hl : lv_has ls 1 [(0, .ref (m 0))] := hl
  refine y_aload_n hE dX4_energySold_0 rfl (lv_at hl 0 rfl) ?_
  refine y_iconst (v := 0) hE dX4_energySold_1 (by decide) ?_
  refine t_put (g' := upd g 0 0) hE hW 0 (by decide) q1976 rfl rfl rfl rfl rfl dX4_energySold_2 (fun H hW => ?_)
  refine y_aload_n hE dX4_energySold_5 rfl (lv_at hl 0 rfl) ?_
  refine t_get (v := .ref (m 1)) hE 1 (by decide) q1977 rfl hW rfl dX4_energySold_6 ?_
  refine y_bipush (v := 7) hE dX4_energySold_9 (by decide) ?_
  refine t_aldB (j := 7) (v := B 7) hE hW (rfl) (by decide) rfl dX4_energySold_11 ?_
  refine y_i2l hE dX4_energySold_12 rfl ?_
  rw [hQ]
  exact y_lret hE dX4_energySold_13 ⟨rfl, hW.cast rfl rfl rfl rfl rfl rfl⟩ (Nat.le_of_ble_eq_true rfl) (Nat.le_of_ble_eq_true rfl)

set_option maxHeartbeats 1000000 in
theorem kX4_coins {z : State} {D : yD} {m : Nat → Nat} {g B : Nat → Int32} {Bs : Nat → Nat → Int32} {L I C : Nat → Int32}  : yM yX4_coins (ws_ yX4_coins cX4_coins 1 (some .long)) (rmD 1 0 0) z D [.ref (m 0)] (tW z D m g B Bs L I C) eL (fun vr H => vr = (B 8).toInt64 ∧ tW z D m (upd g 0 0) B Bs L I C H) 0 0 (tA m) := by
  refine yM_of (own := RX4) (by decide +kernel) rfl (Nat.le_of_ble_eq_true rfl) (fun H h => h.az) fun E hE hW ls hl hin => ?_
  obtain ⟨Q, hQ⟩ : ∃ Q, Q = yEm E eL (fun vr H => vr = (B 8).toInt64 ∧ tW z D m (upd g 0 0) B Bs L I C H) 0 0 (tA m) := ⟨_, rfl⟩
  rw [← hQ]
  generalize (e_s E).heap = H at hW ⊢
  have hl : lv_has ls 1 [(0, .ref (m 0))] := hl
  refine y_aload_n hE dX4_coins_0 rfl (lv_at hl 0 rfl) ?_
  refine y_iconst (v := 0) hE dX4_coins_1 (by decide) ?_
  refine t_put (g' := upd g 0 0) hE hW 0 (by decide) q1976 rfl rfl rfl rfl rfl dX4_coins_2 (fun H hW => ?_)
  refine y_aload_n hE dX4_coins_5 rfl (lv_at hl 0 rfl) ?_
  refine t_get (v := .ref (m 1)) hE 1 (by decide) q1977 rfl hW rfl dX4_coins_6 ?_
  refine y_bipush (v := 8) hE dX4_coins_9 (by decide) ?_
  refine t_aldB (j := 8) (v := B 8) hE hW (rfl) (by decide) rfl dX4_coins_11 ?_
  refine y_i2l hE dX4_coins_12 rfl ?_
  rw [hQ]
  exact y_lret hE dX4_coins_13 ⟨rfl, hW.cast rfl rfl rfl rfl rfl rfl⟩ (Nat.le_of_ble_eq_true rfl) (Nat.le_of_ble_eq_true rfl)

set_option maxHeartbeats 1000000 in
theorem kX4_energySpilled {z : State} {D : yD} {m : Nat → Nat} {g B : Nat → Int32} {Bs : Nat → Nat → Int32} {L I C : Nat → Int32}  : yM yX4_energySpilled (ws_ yX4_energySpilled cX4_energySpilled 1 (some .long)) (rmD 1 0 0) z D [.ref (m 0)] (tW z D m g B Bs L I C) eL (fun vr H => vr = (B 5 - B 6 - B 7).toInt64 ∧ tW z D m (upd g 0 0) B Bs L I C H) 0 0 (tA m) := by
  refine yM_of (own := RX4) (by decide +kernel) rfl (Nat.le_of_ble_eq_true rfl) (fun H h => h.az) fun E hE hW ls hl hin => ?_
  obtain ⟨Q, hQ⟩ : ∃ Q, Q = yEm E eL (fun vr H => vr = (B 5 - B 6 - B 7).toInt64 ∧ tW z D m (upd g 0 0) B Bs L I C H) 0 0 (tA m) := ⟨_, rfl⟩
  rw [← hQ]
  generalize (e_s E).heap = H at hW ⊢
  have hl : lv_has ls 1 [(0, .ref (m 0))] := hl
  refine y_aload_n hE dX4_energySpilled_0 rfl (lv_at hl 0 rfl) ?_
  refine y_iconst (v := 0) hE dX4_energySpilled_1 (by decide) ?_
  refine t_put (g' := upd g 0 0) hE hW 0 (by decide) q1976 rfl rfl rfl rfl rfl dX4_energySpilled_2 (fun H hW => ?_)
  refine y_aload_n hE dX4_energySpilled_5 rfl (lv_at hl 0 rfl) ?_
  refine t_get (v := .ref (m 1)) hE 1 (by decide) q1977 rfl hW rfl dX4_energySpilled_6 ?_
  refine y_iconst (v := 5) hE dX4_energySpilled_9 (by decide) ?_
  refine t_aldB (j := 5) (v := B 5) hE hW (rfl) (by decide) rfl dX4_energySpilled_10 ?_
  refine y_aload_n hE dX4_energySpilled_11 rfl (lv_at hl 0 rfl) ?_
  refine t_get (v := .ref (m 1)) hE 1 (by decide) q1977 rfl hW rfl dX4_energySpilled_12 ?_
  refine y_bipush (v := 6) hE dX4_energySpilled_15 (by decide) ?_
  refine t_aldB (j := 6) (v := B 6) hE hW (rfl) (by decide) rfl dX4_energySpilled_17 ?_
  refine y_isub hE dX4_energySpilled_18 ?_
  refine y_aload_n hE dX4_energySpilled_19 rfl (lv_at hl 0 rfl) ?_
  refine t_get (v := .ref (m 1)) hE 1 (by decide) q1977 rfl hW rfl dX4_energySpilled_20 ?_
  refine y_bipush (v := 7) hE dX4_energySpilled_23 (by decide) ?_
  refine t_aldB (j := 7) (v := B 7) hE hW (rfl) (by decide) rfl dX4_energySpilled_25 ?_
  refine y_isub hE dX4_energySpilled_26 ?_
  refine y_i2l hE dX4_energySpilled_27 rfl ?_
  rw [hQ]
  exact y_lret hE dX4_energySpilled_28 ⟨rfl, hW.cast rfl rfl rfl rfl rfl rfl⟩ (Nat.le_of_ble_eq_true rfl) (Nat.le_of_ble_eq_true rfl)

set_option maxHeartbeats 1000000 in
theorem kX4_isConsistent {z : State} {D : yD} {m : Nat → Nat} {g B : Nat → Int32} {Bs : Nat → Nat → Int32} {L I C : Nat → Int32}  : yM yX4_isConsistent (ws_ yX4_isConsistent cX4_isConsistent 1 (some .boolean)) (rmD 1 0 0) z D [.ref (m 0)] (tW z D m g B Bs L I C) eI (fun vr H => vr = zb true ∧ tW z D m (upd g 0 0) B Bs L I C H) 0 0 (tA m) := by
  refine yM_of (own := RX4) (by decide +kernel) rfl (Nat.le_of_ble_eq_true rfl) (fun H h => h.az) fun E hE hW ls hl hin => ?_
  obtain ⟨Q, hQ⟩ : ∃ Q, Q = yEm E eI (fun vr H => vr = zb true ∧ tW z D m (upd g 0 0) B Bs L I C H) 0 0 (tA m) := ⟨_, rfl⟩
  rw [← hQ]
  generalize (e_s E).heap = H at hW ⊢
  have hl : lv_has ls 1 [(0, .ref (m 0))] := hl
  refine y_aload_n hE dX4_isConsistent_0 rfl (lv_at hl 0 rfl) ?_
  refine y_iconst (v := 0) hE dX4_isConsistent_1 (by decide) ?_
  refine t_put (g' := upd g 0 0) hE hW 0 (by decide) q1976 rfl rfl rfl rfl rfl dX4_isConsistent_2 (fun H hW => ?_)
  refine y_iconst (v := 1) hE dX4_isConsistent_5 (by decide) ?_
  rw [hQ]
  exact y_set1 (show (1 : Int32) = zb true from rfl) (y_zret hE (zb_nar _) dX4_isConsistent_6 ⟨rfl, hW⟩ (Nat.le_of_ble_eq_true rfl) (Nat.le_of_ble_eq_true rfl))


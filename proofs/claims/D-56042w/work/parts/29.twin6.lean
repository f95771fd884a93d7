set_option maxRecDepth 100000
set_option maxHeartbeats 1000000 in
theorem kX4_sign {z : State} {D : yD} {m : Nat → Nat} {g B : Nat → Int32} {Bs : Nat → Nat → Int32} {L I C : Nat → Int32} (h : Nat) (t : Nat) (hh : g 12 = nI h) (hh2 : h ≤ 100) (ht : g 11 = nI t) (ht2 : t ≤ 60) : yR yX4_sign (ws_ yX4_sign cX4_sign 1 (some .int)) (rmD 1 0 0) z D [.ref (m 0)] (tW z D m g B Bs L I C) (some (.int (m_sg I t h))) := by
  refine yR_of (own := RX4) (by decide +kernel) rfl (Nat.le_of_ble_eq_true rfl) fun E hE hW ls hl => ?_
  obtain ⟨Q, hQ⟩ : ∃ Q, Q = yEr E (some (.int (m_sg I t h))) := ⟨_, rfl⟩
  rw [← hQ]
  have hl : lv_has ls 1 [(0, .ref (m 0))] := hl
  refine y_aload_n hE dX4_sign_0 rfl (lv_at hl 0 rfl) ?_
  refine t_get (v := .int (g 12)) hE 12 (by decide) q1988 rfl hW rfl dX4_sign_1 ?_
  refine y_set1 (w := nI h) (hh) ?_
  refine y_aload_n hE dX4_sign_4 rfl (lv_at hl 0 rfl) ?_
  refine t_get (v := .int (g 11)) hE 11 (by decide) q1987 rfl hW rfl dX4_sign_5 ?_
  refine y_set1 (w := nI t) (ht) ?_
  refine y_icmp_ge (tgt := 23) hE dX4_sign_8 (by decide) (fun c8 => ?_) (fun c8 => ?_)
  · -- t 8
    have n8 := Int32.not_lt.mpr c8
    refine y_iconst (v := (-1)) hE dX4_sign_23 (by decide) ?_
    rw [hQ]
    exact y_set1 (w := m_sg I t h) (by rw [m_sg, if_neg (fun hl => nI_ge hl (by omega) c8)]) (y_iretR hE dX4_sign_24)
  · -- f 8
    have n8 := Int32.not_le.mp c8
    have hlt : h < t := (nI_ltI (by omega) (by omega)).mp n8
    refine y_aload_n hE dX4_sign_11 rfl (lv_at hl 0 rfl) ?_
    refine t_get (v := .ref (m 3)) hE 10 (by decide) q1986 rfl hW rfl dX4_sign_12 ?_
    refine y_aload_n hE dX4_sign_15 rfl (lv_at hl 0 rfl) ?_
    refine t_get (v := .int (g 12)) hE 12 (by decide) q1988 rfl hW rfl dX4_sign_16 ?_
    refine y_set1 (w := nI h) (hh) ?_
    refine t_cldI (j := h) hE hW (rfl) (by omega) dX4_sign_19 ?_
    refine y_goto (tgt := 24) hE dX4_sign_20 (by decide) ?_
    rw [hQ]
    exact y_set1 (w := m_sg I t h) (by rw [m_sg, if_pos hlt]) (y_iretR hE dX4_sign_24)

set_option maxHeartbeats 1000000 in
theorem kX4_needs {z : State} {D : yD} {m : Nat → Nat} {g B : Nat → Int32} {Bs : Nat → Nat → Int32} {L I C : Nat → Int32} (p : pS) (t : Nat) (x : Int32) (ht : g 11 = nI t) (ht2 : t ≤ 60) (hp : pB 80 p) : yM yX4_needs (ws_ yX4_needs cX4_needs 2 none) (rmD 2 0 0) z D [.ref (m 0), .int x] (tW z D m (pG g p) B Bs L I C) eV (fun _ H => tW z D m (pG g (p_need I t x p)) B Bs L I C H) 0 0 (tA m) := by
  refine yM_of (own := RX4) (by decide +kernel) rfl (Nat.le_of_ble_eq_true rfl) (fun H h => h.az) fun E hE hW ls hl hin => ?_
  obtain ⟨Q, hQ⟩ : ∃ Q, Q = yEm E eV (fun _ H => tW z D m (pG g (p_need I t x p)) B Bs L I C H) 0 0 (tA m) := ⟨_, rfl⟩
  rw [← hQ]
  generalize (e_s E).heap = H at hW ⊢
  have hl : lv_has ls 2 [(0, .ref (m 0)), (1, .int x)] := hl
  rcases p with ⟨h, _ | e, c⟩
  · -- error: none
    have hh8 := hp.1
    dsimp only at hh8
    refine y_aload_n hE dX4_needs_0 rfl (lv_at hl 0 rfl) ?_
    refine t_get (v := .int (-1)) hE 13 (by decide) q1989 rfl hW rfl dX4_needs_1 ?_
    refine y_if_lt (tgt := 8) hE dX4_needs_4 (by decide) (fun c4 => ?_) (fun c4 => ?_)
    · -- t 4
      have n4 := Int32.not_le.mpr c4
      refine y_aload_n hE dX4_needs_8 rfl (lv_at hl 0 rfl) ?_
      -- call sign []
      refine y_roV (rest := []) hE cl_X4_209 (kX4_sign h t (pG_12 g (h, none, c)) (by omega) (pG_11 (h, none, c) ht) ht2) dX4_needs_9 hl (Nat.le_of_ble_eq_true rfl) (y_recv hE rfl hW.1) rfl rfl (Nat.le_of_ble_eq_true rfl) hW ⟨(Nat.le_of_ble_eq_true rfl), (Nat.le_of_ble_eq_true rfl)⟩ ?_
      refine y_iload_n hE dX4_needs_12 rfl (lv_at hl 1 rfl) ?_
      refine y_icmp_eq (tgt := 25) hE dX4_needs_13 (by decide) (fun c13 => ?_) (fun c13 => ?_)
      · -- t 13
        refine y_aload_n hE dX4_needs_25 rfl (lv_at hl 0 rfl) ?_
        refine y_dup hE dX4_needs_26 rfl ?_
        refine t_get (v := .int (nI h)) hE 12 (by decide) q1988 rfl hW rfl dX4_needs_27 ?_
        refine y_iconst (v := 1) hE dX4_needs_30 (by decide) ?_
        refine y_iadd hE dX4_needs_31 ?_
        refine y_set1 (w := nI (h + 1)) (nI_1 h) ?_
        refine t_put (g' := upd (pG g (h, none, c)) 12 (nI (h + 1))) hE hW 12 (by decide) q1988 rfl rfl rfl rfl rfl dX4_needs_32 (fun H hW => ?_)
        rw [hQ]
        exact y_vret hE dX4_needs_35 ((hW.cast (by rw [pG_h]; simp [p_need, c4, n4, c13]) rfl rfl rfl rfl rfl)) (Nat.le_of_ble_eq_true rfl) (Nat.le_of_ble_eq_true rfl)
      · -- f 13
        refine y_aload_n hE dX4_needs_16 rfl (lv_at hl 0 rfl) ?_
        refine y_aload_n hE dX4_needs_17 rfl (lv_at hl 0 rfl) ?_
        refine t_get (v := .int (nI h)) hE 12 (by decide) q1988 rfl hW rfl dX4_needs_18 ?_
        refine t_put (g' := upd (pG g (h, none, c)) 13 (nI h)) hE hW 13 (by decide) q1989 rfl rfl rfl rfl rfl dX4_needs_21 (fun H hW => ?_)
        rw [hQ]
        exact y_vret hE dX4_needs_24 ((hW.cast (by rw [pG_e]; simp [p_need, c4, n4, c13]) rfl rfl rfl rfl rfl)) (Nat.le_of_ble_eq_true rfl) (Nat.le_of_ble_eq_true rfl)
    · -- f 4
      exact absurd c4 (by decide)
  · -- error: some e
    have hh8 := hp.1
    have he8 := hp.2 e rfl
    dsimp only at hh8
    refine y_aload_n hE dX4_needs_0 rfl (lv_at hl 0 rfl) ?_
    refine t_get (v := .int (nI e)) hE 13 (by decide) q1989 rfl hW rfl dX4_needs_1 ?_
    refine y_if_lt (tgt := 8) hE dX4_needs_4 (by decide) (fun c4 => ?_) (fun c4 => ?_)
    · -- t 4
      exact absurd c4 (nI_pos (by omega))
    · -- f 4
      have n4 := Int32.not_lt.mp c4
      rw [hQ]
      exact y_vret hE dX4_needs_7 ((hW.cast (by simp [p_need, c4, n4]) rfl rfl rfl rfl rfl)) (Nat.le_of_ble_eq_true rfl) (Nat.le_of_ble_eq_true rfl)

set_option maxHeartbeats 1000000 in
theorem kX4_number {z : State} {D : yD} {m : Nat → Nat} {g B : Nat → Int32} {Bs : Nat → Nat → Int32} {L I C : Nat → Int32} (p : pS) (t : Nat) (d : Nat) (ht : g 11 = nI t) (ht2 : t ≤ 60) (hp : pB 80 p) (hd : d ≤ 3) : yM yX4_number (ws_ yX4_number cX4_number 4 (some .int)) (rmD 2 0 0) z D [.ref (m 0), .int (nI d)] (tW z D m (pG g p) B Bs L I C) eI (fun vr H => vr = (p_num I t d p).1 ∧ tW z D m (pG g ((p_num I t d p).2)) B Bs L I C H) 0 0 (tA m) := by
  refine yM_of (own := RX4) (by decide +kernel) rfl (Nat.le_of_ble_eq_true rfl) (fun H h => h.az) fun E hE hW ls hl hin => ?_
  obtain ⟨Q, hQ⟩ : ∃ Q, Q = yEm E eI (fun vr H => vr = (p_num I t d p).1 ∧ tW z D m (pG g ((p_num I t d p).2)) B Bs L I C H) 0 0 (tA m) := ⟨_, rfl⟩
  rw [← hQ]
  generalize (e_s E).heap = H at hW ⊢
  have hl : lv_has ls 4 [(0, .ref (m 0)), (1, .int (nI d))] := hl
  rcases p with ⟨h, _ | e, c⟩
  · -- error: none
    have hh8 := hp.1
    dsimp only at hh8
    refine y_aload_n hE dX4_number_0 rfl (lv_at hl 0 rfl) ?_
    refine t_get (v := .int (-1)) hE 13 (by decide) q1989 rfl hW rfl dX4_number_1 ?_
    refine y_if_lt (tgt := 9) hE dX4_number_4 (by decide) (fun c4 => ?_) (fun c4 => ?_)
    · -- t 4
      have n4 := Int32.not_le.mpr c4
      refine y_aload_n hE dX4_number_9 rfl (lv_at hl 0 rfl) ?_
      -- call sign []
      refine y_roV (rest := []) hE cl_X4_209 (kX4_sign h t (pG_12 g (h, none, c)) (by omega) (pG_11 (h, none, c) ht) ht2) dX4_number_10 hl (Nat.le_of_ble_eq_true rfl) (y_recv hE rfl hW.1) rfl rfl (Nat.le_of_ble_eq_true rfl) hW ⟨(Nat.le_of_ble_eq_true rfl), (Nat.le_of_ble_eq_true rfl)⟩ ?_
      refine y_bipush (v := 48) hE dX4_number_13 (by decide) ?_
      refine y_bipush (v := 57) hE dX4_number_15 (by decide) ?_
      -- call in ['m_sg I t h', '48', '57']
      refine y_roS (rest := []) hE cl_X4_53 (kX4_in (m_sg I t h) 48 57) dX4_number_17 hl (Nat.le_of_ble_eq_true rfl) rfl rfl (Nat.le_of_ble_eq_true rfl) trivial ⟨(Nat.le_of_ble_eq_true rfl), (Nat.le_of_ble_eq_true rfl)⟩ ?_
      refine y_if_ne (tgt := 33) hE dX4_number_20 (by decide) (fun c20 => ?_) (fun c20 => ?_)
      · -- t 20
        rw [zb_1] at c20
        refine y_iconst (v := 0) hE dX4_number_33 (by decide) ?_
        refine y_istore_n (lv' := [(2, .int 0), (0, .ref (m 0)), (1, .int (nI d))]) hE dX4_number_34 rfl hl (by decide) rfl (fun ls hl => ?_)
        refine y_iconst (v := 0) hE dX4_number_35 (by decide) ?_
        refine y_istore_n (lv' := [(3, .int 0), (2, .int 0), (0, .ref (m 0)), (1, .int (nI d))]) hE dX4_number_36 rfl hl (by decide) rfl (fun ls hl => ?_)
        have K37 : ∀ i : Nat, i ≤ d → ∀ (H : Heap) (ls : Array Slot), lv_has ls 4 [(3, .int (nI i)), (2, .int (m_nv I t h i)), (0, .ref (m 0)), (1, .int (nI d))] → tW z D m (pG g (h + i, none, c)) B Bs L I C H → (m_num I t d h 0 = m_num I t (d - i) (h + i) (m_nv I t h i)) → yY E (tA m) H 0 0 Q 37 ls [] := by
          refine y_loop ?_ ?_
          · -- the end of the loop at 37
            intro H ls hl hW hn
            refine y_iload_n hE dX4_number_37 rfl (lv_at hl 0 rfl) ?_
            refine y_iload_n hE dX4_number_38 rfl (lv_at hl 3 rfl) ?_
            refine y_icmp_ge (tgt := 85) hE dX4_number_39 (by decide) (fun c39 => ?_) (fun c39 => ?_)
            · -- t 39
              have n39 := Int32.not_lt.mpr c39
              refine y_iload_n hE dX4_number_85 rfl (lv_at hl 1 rfl) ?_
              rw [hQ]
              exact y_iret hE dX4_number_86 ⟨(by simp only [p_num, m_dig, c20, hn, if_true]; rw [m_num_0]), (hW.cast (by simp only [p_num, m_dig, c20, hn, if_true]; rw [m_num_0]) rfl rfl rfl rfl rfl)⟩ (Nat.le_of_ble_eq_true rfl) (Nat.le_of_ble_eq_true rfl)
            · -- f 39
              exact absurd (nI_le (Nat.le_refl _) (by omega)) c39
          · -- a round of the loop at 37
            intro i hi ih37 H ls hl hW hn
            refine y_iload_n hE dX4_number_37 rfl (lv_at hl 0 rfl) ?_
            refine y_iload_n hE dX4_number_38 rfl (lv_at hl 3 rfl) ?_
            refine y_icmp_ge (tgt := 85) hE dX4_number_39 (by decide) (fun c39 => ?_) (fun c39 => ?_)
            · -- t 39
              exact absurd c39 (nI_ge hi (by omega))
            · -- f 39
              have n39 := Int32.not_le.mp c39
              refine y_aload_n hE dX4_number_42 rfl (lv_at hl 2 rfl) ?_
              -- call sign []
              refine y_roV (rest := []) hE cl_X4_209 (kX4_sign (h + i) t (pG_12 g (h + i, none, c)) (by omega) (pG_11 (h + i, none, c) ht) ht2) dX4_number_43 hl (Nat.le_of_ble_eq_true rfl) (y_recv hE rfl hW.1) rfl rfl (Nat.le_of_ble_eq_true rfl) hW ⟨(Nat.le_of_ble_eq_true rfl), (Nat.le_of_ble_eq_true rfl)⟩ ?_
              refine y_bipush (v := 48) hE dX4_number_46 (by decide) ?_
              refine y_bipush (v := 57) hE dX4_number_48 (by decide) ?_
              -- call in ['m_sg I t (h + i)', '48', '57']
              refine y_roS (rest := []) hE cl_X4_53 (kX4_in (m_sg I t (h + i)) 48 57) dX4_number_50 hl (Nat.le_of_ble_eq_true rfl) rfl rfl (Nat.le_of_ble_eq_true rfl) trivial ⟨(Nat.le_of_ble_eq_true rfl), (Nat.le_of_ble_eq_true rfl)⟩ ?_
              refine y_if_eq (tgt := 85) hE dX4_number_53 (by decide) (fun c53 => ?_) (fun c53 => ?_)
              · -- t 53
                rw [zb_0] at c53
                refine y_iload_n hE dX4_number_85 rfl (lv_at hl 1 rfl) ?_
                rw [hQ]
                exact y_iret hE dX4_number_86 ⟨(by simp only [p_num, m_dig, c20, hn, if_true]; rw [m_num_n hi (by simpa [m_dig] using c53)]), (hW.cast (by simp only [p_num, m_dig, c20, hn, if_true]; rw [m_num_n hi (by simpa [m_dig] using c53)]) rfl rfl rfl rfl rfl)⟩ (Nat.le_of_ble_eq_true rfl) (Nat.le_of_ble_eq_true rfl)
              · -- f 53
                rw [zb_1] at c53
                refine y_bipush (v := 10) hE dX4_number_56 (by decide) ?_
                refine y_iload_n hE dX4_number_58 rfl (lv_at hl 1 rfl) ?_
                refine y_imul hE dX4_number_59 ?_
                refine y_aload_n hE dX4_number_60 rfl (lv_at hl 2 rfl) ?_
                -- call sign []
                refine y_roV (rest := [.int (10 * (m_nv I t h i))]) hE cl_X4_209 (kX4_sign (h + i) t (pG_12 g (h + i, none, c)) (by omega) (pG_11 (h + i, none, c) ht) ht2) dX4_number_61 hl (Nat.le_of_ble_eq_true rfl) (y_recv hE rfl hW.1) rfl rfl (Nat.le_of_ble_eq_true rfl) hW ⟨(Nat.le_of_ble_eq_true rfl), (Nat.le_of_ble_eq_true rfl)⟩ ?_
                refine y_iadd hE dX4_number_64 ?_
                refine y_bipush (v := 48) hE dX4_number_65 (by decide) ?_
                refine y_isub hE dX4_number_67 ?_
                refine y_istore_n (lv' := [(2, .int (((10 * (m_nv I t h i)) + (m_sg I t (h + i))) - 48)), (3, .int (nI i)), (0, .ref (m 0)), (1, .int (nI d))]) hE dX4_number_68 rfl hl (by decide) rfl (fun ls hl => ?_)
                refine y_aload_n hE dX4_number_69 rfl (lv_at hl 2 rfl) ?_
                refine y_dup hE dX4_number_70 rfl ?_
                refine t_get (v := .int (nI (h + i))) hE 12 (by decide) q1988 rfl hW rfl dX4_number_71 ?_
                refine y_iconst (v := 1) hE dX4_number_74 (by decide) ?_
                refine y_iadd hE dX4_number_75 ?_
                refine y_set1 (w := nI (h + i + 1)) (nI_1 (h + i)) ?_
                refine t_put (g' := upd (pG g (h + i, none, c)) 12 (nI (h + i + 1))) hE hW 12 (by decide) q1988 rfl rfl rfl rfl rfl dX4_number_76 (fun H hW => ?_)
                have hW : tW z D m (pG g (h + i + 1, none, c)) B Bs L I C H := hW.cast (pG_h _ _ _) rfl rfl rfl rfl rfl
                refine y_iinc (v := nI (i + 1)) (lv' := [(3, .int (nI (i + 1))), (2, .int (((10 * (m_nv I t h i)) + (m_sg I t (h + i))) - 48)), (0, .ref (m 0)), (1, .int (nI d))]) hE dX4_number_79 hl (k := 1) rfl (nI_1 i) (by decide) rfl (fun ls hl => ?_)
                refine y_goto (tgt := 37) hE dX4_number_82 (by decide) ?_
                exact ih37 _ _ (lv_sub hl [0, 1, 2, 3] rfl) hW (hn.trans (m_num_y hi (by simpa [m_dig] using c53)))
        exact K37 0 (Nat.zero_le _) _ _ (lv_sub hl [0, 1, 2, 3] rfl) hW rfl
      · -- f 20
        rw [zb_0] at c20
        refine y_aload_n hE dX4_number_23 rfl (lv_at hl 0 rfl) ?_
        refine y_aload_n hE dX4_number_24 rfl (lv_at hl 0 rfl) ?_
        refine t_get (v := .int (nI h)) hE 12 (by decide) q1988 rfl hW rfl dX4_number_25 ?_
        refine t_put (g' := upd (pG g (h, none, c)) 13 (nI h)) hE hW 13 (by decide) q1989 rfl rfl rfl rfl rfl dX4_number_28 (fun H hW => ?_)
        refine y_iconst (v := 0) hE dX4_number_31 (by decide) ?_
        rw [hQ]
        exact y_iret hE dX4_number_32 ⟨(by simp [p_num, m_dig, c20]), (hW.cast (by rw [pG_e]; simp [p_num, m_dig, c20]) rfl rfl rfl rfl rfl)⟩ (Nat.le_of_ble_eq_true rfl) (Nat.le_of_ble_eq_true rfl)
    · -- f 4
      exact absurd c4 (by decide)
  · -- error: some e
    have hh8 := hp.1
    have he8 := hp.2 e rfl
    dsimp only at hh8
    refine y_aload_n hE dX4_number_0 rfl (lv_at hl 0 rfl) ?_
    refine t_get (v := .int (nI e)) hE 13 (by decide) q1989 rfl hW rfl dX4_number_1 ?_
    refine y_if_lt (tgt := 9) hE dX4_number_4 (by decide) (fun c4 => ?_) (fun c4 => ?_)
    · -- t 4
      exact absurd c4 (nI_pos (by omega))
    · -- f 4
      have n4 := Int32.not_lt.mp c4
      refine y_iconst (v := 0) hE dX4_number_7 (by decide) ?_
      rw [hQ]
      exact y_iret hE dX4_number_8 ⟨(by simp [p_num]), (hW.cast (by simp [p_num]) rfl rfl rfl rfl rfl)⟩ (Nat.le_of_ble_eq_true rfl) (Nat.le_of_ble_eq_true rfl)

set_option maxHeartbeats 1000000 in
theorem kX4_way {z : State} {D : yD} {m : Nat → Nat} {g B : Nat → Int32} {Bs : Nat → Nat → Int32} {L I C : Nat → Int32} (p : pS) (t : Nat) (ht : g 11 = nI t) (ht2 : t ≤ 60) (hp : pB 80 p) : yM yX4_way (ws_ yX4_way cX4_way 2 (some .int)) (rmD 2 0 0) z D [.ref (m 0)] (tW z D m (pG g p) B Bs L I C) eI (fun vr H => vr = (p_way I t p).1 ∧ tW z D m (pG g ((p_way I t p).2)) B Bs L I C H) 0 0 (tA m) := by
  refine yM_of (own := RX4) (by decide +kernel) rfl (Nat.le_of_ble_eq_true rfl) (fun H h => h.az) fun E hE hW ls hl hin => ?_
  obtain ⟨Q, hQ⟩ : ∃ Q, Q = yEm E eI (fun vr H => vr = (p_way I t p).1 ∧ tW z D m (pG g ((p_way I t p).2)) B Bs L I C H) 0 0 (tA m) := ⟨_, rfl⟩
  rw [← hQ]
  generalize (e_s E).heap = H at hW ⊢
  have hl : lv_has ls 2 [(0, .ref (m 0))] := hl
  rcases p with ⟨h, e, c⟩
  · -- error: e
    have hh8 := hp.1
    dsimp only at hh8
    refine y_aload_n hE dX4_way_0 rfl (lv_at hl 0 rfl) ?_
    -- call sign []
    refine y_roV (rest := []) hE cl_X4_209 (kX4_sign h t (pG_12 g (h, e, c)) (by omega) (pG_11 (h, e, c) ht) ht2) dX4_way_1 hl (Nat.le_of_ble_eq_true rfl) (y_recv hE rfl hW.1) rfl rfl (Nat.le_of_ble_eq_true rfl) hW ⟨(Nat.le_of_ble_eq_true rfl), (Nat.le_of_ble_eq_true rfl)⟩ ?_
    -- call wayOf ['m_sg I t h']
    refine y_roS (rest := []) hE cl_X4_132 (kX4_wayOf (m_sg I t h)) dX4_way_4 hl (Nat.le_of_ble_eq_true rfl) rfl rfl (Nat.le_of_ble_eq_true rfl) trivial ⟨(Nat.le_of_ble_eq_true rfl), (Nat.le_of_ble_eq_true rfl)⟩ ?_
    refine y_istore_n (lv' := [(1, .int (m_way (m_sg I t h))), (0, .ref (m 0))]) hE dX4_way_7 rfl hl (by decide) rfl (fun ls hl => ?_)
    refine y_iload_n hE dX4_way_8 rfl (lv_at hl 0 rfl) ?_
    refine y_if_ge (tgt := 22) hE dX4_way_9 (by decide) (fun c9 => ?_) (fun c9 => ?_)
    · -- t 9
      have n9 := Int32.not_lt.mpr c9
      refine y_aload_n hE dX4_way_22 rfl (lv_at hl 1 rfl) ?_
      refine y_dup hE dX4_way_23 rfl ?_
      refine t_get (v := .int (nI h)) hE 12 (by decide) q1988 rfl hW rfl dX4_way_24 ?_
      refine y_iconst (v := 1) hE dX4_way_27 (by decide) ?_
      refine y_iadd hE dX4_way_28 ?_
      refine y_set1 (w := nI (h + 1)) (nI_1 h) ?_
      refine t_put (g' := upd (pG g (h, e, c)) 12 (nI (h + 1))) hE hW 12 (by decide) q1988 rfl rfl rfl rfl rfl dX4_way_29 (fun H hW => ?_)
      refine y_iload_n hE dX4_way_32 rfl (lv_at hl 0 rfl) ?_
      rw [hQ]
      exact y_iret hE dX4_way_33 ⟨(by simp [p_way, c9, n9]), (hW.cast (by rw [pG_h]; simp [p_way, c9, n9]) rfl rfl rfl rfl rfl)⟩ (Nat.le_of_ble_eq_true rfl) (Nat.le_of_ble_eq_true rfl)
    · -- f 9
      have n9 := Int32.not_le.mp c9
      refine y_aload_n hE dX4_way_12 rfl (lv_at hl 1 rfl) ?_
      refine y_aload_n hE dX4_way_13 rfl (lv_at hl 1 rfl) ?_
      refine t_get (v := .int (nI h)) hE 12 (by decide) q1988 rfl hW rfl dX4_way_14 ?_
      refine t_put (g' := upd (pG g (h, e, c)) 13 (nI h)) hE hW 13 (by decide) q1989 rfl rfl rfl rfl rfl dX4_way_17 (fun H hW => ?_)
      refine y_iconst (v := 0) hE dX4_way_20 (by decide) ?_
      rw [hQ]
      exact y_iret hE dX4_way_21 ⟨(by simp [p_way, c9, n9]), (hW.cast (by rw [pG_e]; simp [p_way, c9, n9]) rfl rfl rfl rfl rfl)⟩ (Nat.le_of_ble_eq_true rfl) (Nat.le_of_ble_eq_true rfl)

set_option maxHeartbeats 1000000 in
theorem kX4_behind {z : State} {D : yD} {m : Nat → Nat} {g B : Nat → Int32} {Bs : Nat → Nat → Int32} {L I C : Nat → Int32} (p : pS) (t : Nat) (x : Int32) (ht : g 11 = nI t) (ht2 : t ≤ 60) (hp : pB 79 p) : yM yX4_behind (ws_ yX4_behind cX4_behind 2 (some .int)) (rmD 3 0 0) z D [.ref (m 0), .int x] (tW z D m (pG g p) B Bs L I C) eI (fun vr H => vr = (p_beh I t x p).1 ∧ tW z D m (pG g ((p_beh I t x p).2)) B Bs L I C H) 0 0 (tA m) := by
  refine yM_of (own := RX4) (by decide +kernel) rfl (Nat.le_of_ble_eq_true rfl) (fun H h => h.az) fun E hE hW ls hl hin => ?_
  obtain ⟨Q, hQ⟩ : ∃ Q, Q = yEm E eI (fun vr H => vr = (p_beh I t x p).1 ∧ tW z D m (pG g ((p_beh I t x p).2)) B Bs L I C H) 0 0 (tA m) := ⟨_, rfl⟩
  rw [← hQ]
  generalize (e_s E).heap = H at hW ⊢
  have hl : lv_has ls 2 [(0, .ref (m 0)), (1, .int x)] := hl
  refine y_aload_n hE dX4_behind_0 rfl (lv_at hl 0 rfl) ?_
  refine y_iload_n hE dX4_behind_1 rfl (lv_at hl 1 rfl) ?_
  -- call needs ['x']
  refine y_muV (rest := []) hE cl_X4_212 (kX4_needs p t x ht ht2 (hp.mono (by omega))) dX4_behind_2 hl (Nat.le_of_ble_eq_true rfl) (y_recv hE rfl hW.1) rfl rfl (Nat.le_of_ble_eq_true rfl) hW (fun _ h => h) ⟨(Nat.le_of_ble_eq_true rfl), (Nat.le_of_ble_eq_true rfl)⟩ (fun vr H hW _ _ => ?_)
  have hW : tW z D m (pG g (p_need I t x p)) B Bs L I C H := hW
  refine y_st (st' := []) rfl ?_
  refine y_aload_n hE dX4_behind_5 rfl (lv_at hl 0 rfl) ?_
  refine y_iconst (v := 3) hE dX4_behind_6 (by decide) ?_
  -- call number ['3']
  refine y_muV (rest := []) hE cl_X4_215 (kX4_number (p_need I t x p) t 3 ht ht2 (pB_need _ _ _ hp) (by omega)) dX4_behind_7 hl (Nat.le_of_ble_eq_true rfl) (y_recv hE rfl hW.1) rfl rfl (Nat.le_of_ble_eq_true rfl) hW (fun _ h => h) ⟨(Nat.le_of_ble_eq_true rfl), (Nat.le_of_ble_eq_true rfl)⟩ (fun vr H hW _ _ => ?_)
  obtain ⟨hr, hW⟩ := hW
  subst hr
  have hW : tW z D m (pG g ((p_num I t 3 (p_need I t x p)).2)) B Bs L I C H := hW
  refine y_st (st' := [.int ((p_num I t 3 (p_need I t x p)).1)]) rfl ?_
  rw [hQ]
  exact y_iret hE dX4_behind_10 ⟨rfl, hW.cast rfl rfl rfl rfl rfl rfl⟩ (Nat.le_of_ble_eq_true rfl) (Nat.le_of_ble_eq_true rfl)

set_option maxHeartbeats 1000000 in
theorem kX4_isLetter {z : State} {D : yD} (x : Int32) : yR yX4_isLetter (ws_ yX4_isLetter cX4_isLetter 1 (some .boolean)) (rmD 1 0 0) z D [.int x] (fun _ => True) (some (.int (zb (m_let x)))) := by
  refine yR_of (own := RX4) (by decide +kernel) rfl (Nat.le_of_ble_eq_true rfl) fun E hE hW ls hl => ?_
  obtain ⟨Q, hQ⟩ : ∃ Q, Q = yEr E (some (.int (zb (m_let x)))) := ⟨_, rfl⟩
  rw [← hQ]
  have hl : lv_has ls 1 [(0, .int x)] := hl
  refine y_iload_n hE dX4_isLetter_0 rfl (lv_at hl 0 rfl) ?_
  refine y_bipush (v := 97) hE dX4_isLetter_1 (by decide) ?_
  refine y_icmp_eq (tgt := 78) hE dX4_isLetter_3 (by decide) (fun c3 => ?_) (fun c3 => ?_)
  · -- t 3
    refine y_iconst (v := 1) hE dX4_isLetter_78 (by decide) ?_
    refine y_goto (tgt := 83) hE dX4_isLetter_79 (by decide) ?_
    rw [hQ]
    exact y_set1 (w := zb (m_let x)) (by simp [m_let, zb, c3]) (y_zretR hE (zb_nar _) dX4_isLetter_83)
  · -- f 3
    refine y_iload_n hE dX4_isLetter_6 rfl (lv_at hl 0 rfl) ?_
    refine y_bipush (v := 102) hE dX4_isLetter_7 (by decide) ?_
    refine y_icmp_eq (tgt := 78) hE dX4_isLetter_9 (by decide) (fun c9 => ?_) (fun c9 => ?_)
    · -- t 9
      refine y_iconst (v := 1) hE dX4_isLetter_78 (by decide) ?_
      refine y_goto (tgt := 83) hE dX4_isLetter_79 (by decide) ?_
      rw [hQ]
      exact y_set1 (w := zb (m_let x)) (by simp [m_let, zb, c3, c9]) (y_zretR hE (zb_nar _) dX4_isLetter_83)
    · -- f 9
      refine y_iload_n hE dX4_isLetter_12 rfl (lv_at hl 0 rfl) ?_
      refine y_bipush (v := 115) hE dX4_isLetter_13 (by decide) ?_
      refine y_icmp_eq (tgt := 78) hE dX4_isLetter_15 (by decide) (fun c15 => ?_) (fun c15 => ?_)
      · -- t 15
        refine y_iconst (v := 1) hE dX4_isLetter_78 (by decide) ?_
        refine y_goto (tgt := 83) hE dX4_isLetter_79 (by decide) ?_
        rw [hQ]
        exact y_set1 (w := zb (m_let x)) (by simp [m_let, zb, c3, c9, c15]) (y_zretR hE (zb_nar _) dX4_isLetter_83)
      · -- f 15
        refine y_iload_n hE dX4_isLetter_18 rfl (lv_at hl 0 rfl) ?_
        refine y_bipush (v := 114) hE dX4_isLetter_19 (by decide) ?_
        refine y_icmp_eq (tgt := 78) hE dX4_isLetter_21 (by decide) (fun c21 => ?_) (fun c21 => ?_)
        · -- t 21
          refine y_iconst (v := 1) hE dX4_isLetter_78 (by decide) ?_
          refine y_goto (tgt := 83) hE dX4_isLetter_79 (by decide) ?_
          rw [hQ]
          exact y_set1 (w := zb (m_let x)) (by simp [m_let, zb, c3, c9, c15, c21]) (y_zretR hE (zb_nar _) dX4_isLetter_83)
        · -- f 21
          refine y_iload_n hE dX4_isLetter_24 rfl (lv_at hl 0 rfl) ?_
          refine y_bipush (v := 99) hE dX4_isLetter_25 (by decide) ?_
          refine y_icmp_eq (tgt := 78) hE dX4_isLetter_27 (by decide) (fun c27 => ?_) (fun c27 => ?_)
          · -- t 27
            refine y_iconst (v := 1) hE dX4_isLetter_78 (by decide) ?_
            refine y_goto (tgt := 83) hE dX4_isLetter_79 (by decide) ?_
            rw [hQ]
            exact y_set1 (w := zb (m_let x)) (by simp [m_let, zb, c3, c9, c15, c21, c27]) (y_zretR hE (zb_nar _) dX4_isLetter_83)
          · -- f 27
            refine y_iload_n hE dX4_isLetter_30 rfl (lv_at hl 0 rfl) ?_
            refine y_bipush (v := 117) hE dX4_isLetter_31 (by decide) ?_
            refine y_icmp_eq (tgt := 78) hE dX4_isLetter_33 (by decide) (fun c33 => ?_) (fun c33 => ?_)
            · -- t 33
              refine y_iconst (v := 1) hE dX4_isLetter_78 (by decide) ?_
              refine y_goto (tgt := 83) hE dX4_isLetter_79 (by decide) ?_
              rw [hQ]
              exact y_set1 (w := zb (m_let x)) (by simp [m_let, zb, c3, c9, c15, c21, c27, c33]) (y_zretR hE (zb_nar _) dX4_isLetter_83)
            · -- f 33
              refine y_iload_n hE dX4_isLetter_36 rfl (lv_at hl 0 rfl) ?_
              refine y_bipush (v := 119) hE dX4_isLetter_37 (by decide) ?_
              refine y_icmp_eq (tgt := 78) hE dX4_isLetter_39 (by decide) (fun c39 => ?_) (fun c39 => ?_)
              · -- t 39
                refine y_iconst (v := 1) hE dX4_isLetter_78 (by decide) ?_
                refine y_goto (tgt := 83) hE dX4_isLetter_79 (by decide) ?_
                rw [hQ]
                exact y_set1 (w := zb (m_let x)) (by simp [m_let, zb, c3, c9, c15, c21, c27, c33, c39]) (y_zretR hE (zb_nar _) dX4_isLetter_83)
              · -- f 39
                refine y_iload_n hE dX4_isLetter_42 rfl (lv_at hl 0 rfl) ?_
                refine y_bipush (v := 103) hE dX4_isLetter_43 (by decide) ?_
                refine y_icmp_eq (tgt := 78) hE dX4_isLetter_45 (by decide) (fun c45 => ?_) (fun c45 => ?_)
                · -- t 45
                  refine y_iconst (v := 1) hE dX4_isLetter_78 (by decide) ?_
                  refine y_goto (tgt := 83) hE dX4_isLetter_79 (by decide) ?_
                  rw [hQ]
                  exact y_set1 (w := zb (m_let x)) (by simp [m_let, zb, c3, c9, c15, c21, c27, c33, c39, c45]) (y_zretR hE (zb_nar _) dX4_isLetter_83)
                · -- f 45
                  refine y_iload_n hE dX4_isLetter_48 rfl (lv_at hl 0 rfl) ?_
                  refine y_bipush (v := 100) hE dX4_isLetter_49 (by decide) ?_
                  refine y_icmp_eq (tgt := 78) hE dX4_isLetter_51 (by decide) (fun c51 => ?_) (fun c51 => ?_)
                  · -- t 51
                    refine y_iconst (v := 1) hE dX4_isLetter_78 (by decide) ?_
                    refine y_goto (tgt := 83) hE dX4_isLetter_79 (by decide) ?_
                    rw [hQ]
                    exact y_set1 (w := zb (m_let x)) (by simp [m_let, zb, c3, c9, c15, c21, c27, c33, c39, c45, c51]) (y_zretR hE (zb_nar _) dX4_isLetter_83)
                  · -- f 51
                    refine y_iload_n hE dX4_isLetter_54 rfl (lv_at hl 0 rfl) ?_
                    refine y_bipush (v := 118) hE dX4_isLetter_55 (by decide) ?_
                    refine y_icmp_eq (tgt := 78) hE dX4_isLetter_57 (by decide) (fun c57 => ?_) (fun c57 => ?_)
                    · -- t 57
                      refine y_iconst (v := 1) hE dX4_isLetter_78 (by decide) ?_
                      refine y_goto (tgt := 83) hE dX4_isLetter_79 (by decide) ?_
                      rw [hQ]
                      exact y_set1 (w := zb (m_let x)) (by simp [m_let, zb, c3, c9, c15, c21, c27, c33, c39, c45, c51, c57]) (y_zretR hE (zb_nar _) dX4_isLetter_83)
                    · -- f 57
                      refine y_iload_n hE dX4_isLetter_60 rfl (lv_at hl 0 rfl) ?_
                      refine y_bipush (v := 98) hE dX4_isLetter_61 (by decide) ?_
                      refine y_icmp_eq (tgt := 78) hE dX4_isLetter_63 (by decide) (fun c63 => ?_) (fun c63 => ?_)
                      · -- t 63
                        refine y_iconst (v := 1) hE dX4_isLetter_78 (by decide) ?_
                        refine y_goto (tgt := 83) hE dX4_isLetter_79 (by decide) ?_
                        rw [hQ]
                        exact y_set1 (w := zb (m_let x)) (by simp [m_let, zb, c3, c9, c15, c21, c27, c33, c39, c45, c51, c57, c63]) (y_zretR hE (zb_nar _) dX4_isLetter_83)
                      · -- f 63
                        refine y_iload_n hE dX4_isLetter_66 rfl (lv_at hl 0 rfl) ?_
                        refine y_bipush (v := 113) hE dX4_isLetter_67 (by decide) ?_
                        refine y_icmp_eq (tgt := 78) hE dX4_isLetter_69 (by decide) (fun c69 => ?_) (fun c69 => ?_)
                        · -- t 69
                          refine y_iconst (v := 1) hE dX4_isLetter_78 (by decide) ?_
                          refine y_goto (tgt := 83) hE dX4_isLetter_79 (by decide) ?_
                          rw [hQ]
                          exact y_set1 (w := zb (m_let x)) (by simp [m_let, zb, c3, c9, c15, c21, c27, c33, c39, c45, c51, c57, c63, c69]) (y_zretR hE (zb_nar _) dX4_isLetter_83)
                        · -- f 69
                          refine y_iload_n hE dX4_isLetter_72 rfl (lv_at hl 0 rfl) ?_
                          refine y_bipush (v := 116) hE dX4_isLetter_73 (by decide) ?_
                          refine y_icmp_ne (tgt := 82) hE dX4_isLetter_75 (by decide) (fun c75 => ?_) (fun c75 => ?_)
                          · -- t 75
                            refine y_iconst (v := 0) hE dX4_isLetter_82 (by decide) ?_
                            rw [hQ]
                            exact y_set1 (w := zb (m_let x)) (by simp [m_let, zb, c3, c9, c15, c21, c27, c33, c39, c45, c51, c57, c63, c69, c75]) (y_zretR hE (zb_nar _) dX4_isLetter_83)
                          · -- f 75
                            refine y_iconst (v := 1) hE dX4_isLetter_78 (by decide) ?_
                            refine y_goto (tgt := 83) hE dX4_isLetter_79 (by decide) ?_
                            rw [hQ]
                            exact y_set1 (w := zb (m_let x)) (by simp [m_let, zb, c3, c9, c15, c21, c27, c33, c39, c45, c51, c57, c63, c69, c75]) (y_zretR hE (zb_nar _) dX4_isLetter_83)

set_option maxHeartbeats 1000000 in
theorem kX4_command {z : State} {D : yD} {m : Nat → Nat} {g B : Nat → Int32} {Bs : Nat → Nat → Int32} {L I C : Nat → Int32} (p : pS) (t : Nat) (ht : g 11 = nI t) (ht2 : t ≤ 60) (hp : pB 62 p) (hpc : p.2.2 ≤ 60) : yM yX4_command (ws_ yX4_command cX4_command 4 none) (rmD 4 0 0) z D [.ref (m 0)] (tW z D m (pG g p) B Bs L I C) eV (fun _ H => tW z D m (pG g (p_cmd I t p).2) B Bs L I (p_cmdC I t p C) H) 0 0 (tA m) := by
  refine yM_of (own := RX4) (by decide +kernel) rfl (Nat.le_of_ble_eq_true rfl) (fun H h => h.az) fun E hE hW ls hl hin => ?_
  obtain ⟨Q, hQ⟩ : ∃ Q, Q = yEm E eV (fun _ H => tW z D m (pG g (p_cmd I t p).2) B Bs L I (p_cmdC I t p C) H) 0 0 (tA m) := ⟨_, rfl⟩
  rw [← hQ]
  generalize (e_s E).heap = H at hW ⊢
  have hl : lv_has ls 4 [(0, .ref (m 0))] := hl
  rcases p with ⟨h, e, c⟩
  · -- error: e
    have hh8 := hp.1
    dsimp only at hh8
    dsimp only at hpc
    refine y_iconst (v := 4) hE dX4_command_0 (by decide) ?_
    refine y_aload_n hE dX4_command_1 rfl (lv_at hl 0 rfl) ?_
    refine t_get (v := .int (nI c)) hE 16 (by decide) q1992 rfl hW rfl dX4_command_2 ?_
    refine y_imul hE dX4_command_5 ?_
    refine y_set1 (w := nI (4 * c)) (by show nI 4 * nI c = _; rw [pk_mul]) ?_
    refine y_istore_n (lv' := [(1, .int (nI (4 * c))), (0, .ref (m 0))]) hE dX4_command_6 rfl hl (by decide) rfl (fun ls hl => ?_)
    refine y_aload_n hE dX4_command_7 rfl (lv_at hl 1 rfl) ?_
    refine y_dup hE dX4_command_8 rfl ?_
    refine t_get (v := .int (nI c)) hE 16 (by decide) q1992 rfl hW rfl dX4_command_9 ?_
    refine y_iconst (v := 1) hE dX4_command_12 (by decide) ?_
    refine y_iadd hE dX4_command_13 ?_
    refine y_set1 (w := nI (c + 1)) (nI_1 c) ?_
    refine t_put (g' := upd (pG g (h, e, c)) 16 (nI (c + 1))) hE hW 16 (by decide) q1992 rfl rfl rfl rfl rfl dX4_command_14 (fun H hW => ?_)
    have hW : tW z D m (pG g (h, e, c + 1)) B Bs L I C H := hW.cast (pG_c _ _ _) rfl rfl rfl rfl rfl
    refine y_aload_n hE dX4_command_17 rfl (lv_at hl 1 rfl) ?_
    -- call sign []
    refine y_roV (rest := []) hE cl_X4_209 (kX4_sign h t (pG_12 g (h, e, c + 1)) (by omega) (pG_11 (h, e, c + 1) ht) ht2) dX4_command_18 hl (Nat.le_of_ble_eq_true rfl) (y_recv hE rfl hW.1) rfl rfl (Nat.le_of_ble_eq_true rfl) hW ⟨(Nat.le_of_ble_eq_true rfl), (Nat.le_of_ble_eq_true rfl)⟩ ?_
    refine y_topi (fun k e_k => ?_)
    refine y_istore_n (lv' := [(2, .int k), (1, .int (nI (4 * c))), (0, .ref (m 0))]) hE dX4_command_21 rfl hl (by decide) rfl (fun ls hl => ?_)
    refine y_iconst (v := 0) hE dX4_command_22 (by decide) ?_
    refine y_istore_n (lv' := [(3, .int 0), (2, .int k), (1, .int (nI (4 * c))), (0, .ref (m 0))]) hE dX4_command_23 rfl hl (by decide) rfl (fun ls hl => ?_)
    have K24 : ∀ j : Nat, j ≤ 4 → ∀ (H : Heap) (ls : Array Slot), lv_has ls 4 [(3, .int (nI j)), (2, .int k), (1, .int (nI (4 * c))), (0, .ref (m 0))] → tW z D m (pG g (h, e, c + 1)) B Bs L I (a_z C (4 * c) j) H → yY E (tA m) H 0 0 Q 24 ls [] := by
      refine y_loop ?_ ?_
      · -- the end of the loop at 24
        intro H ls hl hW 
        refine y_iload_n hE dX4_command_24 rfl (lv_at hl 0 rfl) ?_
        refine y_iconst (v := 4) hE dX4_command_25 (by decide) ?_
        refine y_set1 (w := nI 4) (rfl) ?_
        refine y_icmp_ge (tgt := 44) hE dX4_command_26 (by decide) (fun c26 => ?_) (fun c26 => ?_)
        · -- t 26
          have n26 := Int32.not_lt.mpr c26
          replace hW := hW.cast rfl rfl rfl rfl rfl (c4_z _ _)
          have hW : tW z D m (pG g (h, e, c + 1)) B Bs L I (c4 C (4 * c) 0 0 0 0) H := hW
          refine y_iload_n hE dX4_command_44 rfl (lv_at hl 1 rfl) ?_
          -- call isLetter ['k']
          refine y_roS (rest := []) hE cl_X4_221 (kX4_isLetter k) dX4_command_45 hl (Nat.le_of_ble_eq_true rfl) rfl rfl (Nat.le_of_ble_eq_true rfl) trivial ⟨(Nat.le_of_ble_eq_true rfl), (Nat.le_of_ble_eq_true rfl)⟩ ?_
          refine y_if_ne (tgt := 60) hE dX4_command_48 (by decide) (fun c48 => ?_) (fun c48 => ?_)
          · -- t 48
            rw [zb_1] at c48
            refine y_aload_n hE dX4_command_60 rfl (lv_at hl 3 rfl) ?_
            refine y_dup hE dX4_command_61 rfl ?_
            refine t_get (v := .int (nI h)) hE 12 (by decide) q1988 rfl hW rfl dX4_command_62 ?_
            refine y_iconst (v := 1) hE dX4_command_65 (by decide) ?_
            refine y_iadd hE dX4_command_66 ?_
            refine y_set1 (w := nI (h + 1)) (nI_1 h) ?_
            refine t_put (g' := upd (pG g (h, e, c + 1)) 12 (nI (h + 1))) hE hW 12 (by decide) q1988 rfl rfl rfl rfl rfl dX4_command_67 (fun H hW => ?_)
            have hW : tW z D m (pG g (h + 1, e, c + 1)) B Bs L I (c4 C (4 * c) 0 0 0 0) H := hW.cast (pG_h _ _ _) rfl rfl rfl rfl rfl
            have hp0 : pB 63 (h + 1, e, c + 1) := ⟨by dsimp only; omega, fun e0 he0 => Nat.le_trans (hp.2 e0 he0) (by omega)⟩
            refine y_aload_n hE dX4_command_70 rfl (lv_at hl 3 rfl) ?_
            refine t_get (v := .ref (m 4)) hE 15 (by decide) q1991 rfl hW rfl dX4_command_71 ?_
            refine y_iload_n hE dX4_command_74 rfl (lv_at hl 2 rfl) ?_
            refine y_iload_n hE dX4_command_75 rfl (lv_at hl 1 rfl) ?_
            refine t_astC (j := (4 * c)) hE hW (rfl) (by omega) dX4_command_76 (fun H hW => ?_)
            replace hW := hW.cast rfl rfl rfl rfl rfl (c4_k _ _ _ _ _ _ _)
            have hW : tW z D m (pG g (h + 1, e, c + 1)) B Bs L I (c4 C (4 * c) k 0 0 0) H := hW
            refine y_iload_n hE dX4_command_77 rfl (lv_at hl 1 rfl) ?_
            rcases m_let_or c48 with hk | hk | hk | hk | hk | hk | hk | hk | hk | hk | hk | hk | hk
            · -- letter a
              subst hk
              have hW : tW z D m (pG g (h + 1, e, c + 1)) B Bs L I (c4 C (4 * c) 97 0 0 0) H := hW
              have hl : lv_has ls 4 [(3, .int (nI 4)), (2, .int 97), (1, .int (nI (4 * c))), (0, .ref (m 0))] := hl
              refine y_tableIn (off := 109) (tgt := 187) hE dX4_command_78 (by decide) (by decide) rfl (by decide) ?_
              refine y_iconst (v := 1) hE dX4_command_187 (by decide) ?_
              refine y_istore_n (lv' := [(3, .int 1), (2, .int 97), (1, .int (nI (4 * c))), (0, .ref (m 0))]) hE dX4_command_188 rfl hl (by decide) rfl (fun ls hl => ?_)
              refine y_iload_n hE dX4_command_189 rfl (lv_at hl 0 rfl) ?_
              refine y_iconst (v := 4) hE dX4_command_190 (by decide) ?_
              refine y_icmp_ge (tgt := 213) hE dX4_command_191 (by decide) (fun c191 => ?_) (fun c191 => ?_)
              · -- t 191
                exact absurd c191 (by decide)
              · -- f 191
                have n191 := Int32.not_le.mp c191
                refine y_aload_n hE dX4_command_194 rfl (lv_at hl 3 rfl) ?_
                refine t_get (v := .ref (m 4)) hE 15 (by decide) q1991 rfl hW rfl dX4_command_195 ?_
                refine y_iload_n hE dX4_command_198 rfl (lv_at hl 2 rfl) ?_
                refine y_iload_n hE dX4_command_199 rfl (lv_at hl 0 rfl) ?_
                refine y_iadd hE dX4_command_200 ?_
                refine y_aload_n hE dX4_command_201 rfl (lv_at hl 3 rfl) ?_
                refine y_iconst (v := 1) hE dX4_command_202 (by decide) ?_
                -- call number ['1']
                refine y_muV (rest := [.int ((nI (4 * c)) + 1), .ref (m 4)]) hE cl_X4_215 (kX4_number (h + 1, e, c + 1) t 1 ht ht2 (pB.mono hp0 (by omega)) (by omega)) dX4_command_203 hl (Nat.le_of_ble_eq_true rfl) (y_recv hE rfl hW.1) rfl rfl (Nat.le_of_ble_eq_true rfl) hW (fun _ h => h) ⟨(Nat.le_of_ble_eq_true rfl), (Nat.le_of_ble_eq_true rfl)⟩ (fun vr H hW _ _ => ?_)
                obtain ⟨hr, hW⟩ := hW
                subst hr
                have hW : tW z D m (pG g ((p_num I t 1 (h + 1, e, c + 1)).2)) B Bs L I (c4 C (4 * c) 97 0 0 0) H := hW
                refine y_st (st' := [.int ((p_num I t 1 (h + 1, e, c + 1)).1), .int ((nI (4 * c)) + 1), .ref (m 4)]) rfl ?_
                refine t_astC (j := 4 * c + 1) hE hW (nI_add (4 * c) 1) (by omega) dX4_command_206 (fun H hW => ?_)
                replace hW := hW.cast rfl rfl rfl rfl rfl (c4_1 _ _ _ _ _ _ _)
                have hW : tW z D m (pG g ((p_num I t 1 (h + 1, e, c + 1)).2)) B Bs L I (c4 C (4 * c) 97 ((p_num I t 1 (h + 1, e, c + 1)).1) 0 0) H := hW
                refine y_iinc (v := 2) (lv' := [(3, .int 2), (2, .int 97), (1, .int (nI (4 * c))), (0, .ref (m 0))]) hE dX4_command_207 hl (k := 0) rfl (rfl) (by decide) rfl (fun ls hl => ?_)
                refine y_goto (tgt := 189) hE dX4_command_210 (by decide) ?_
                refine y_iload_n hE dX4_command_189 rfl (lv_at hl 0 rfl) ?_
                refine y_iconst (v := 4) hE dX4_command_190 (by decide) ?_
                refine y_icmp_ge (tgt := 213) hE dX4_command_191 (by decide) (fun c191 => ?_) (fun c191 => ?_)
                · -- t 191
                  exact absurd c191 (by decide)
                · -- f 191
                  have n191 := Int32.not_le.mp c191
                  refine y_aload_n hE dX4_command_194 rfl (lv_at hl 3 rfl) ?_
                  refine t_get (v := .ref (m 4)) hE 15 (by decide) q1991 rfl hW rfl dX4_command_195 ?_
                  refine y_iload_n hE dX4_command_198 rfl (lv_at hl 2 rfl) ?_
                  refine y_iload_n hE dX4_command_199 rfl (lv_at hl 0 rfl) ?_
                  refine y_iadd hE dX4_command_200 ?_
                  refine y_aload_n hE dX4_command_201 rfl (lv_at hl 3 rfl) ?_
                  refine y_iconst (v := 1) hE dX4_command_202 (by decide) ?_
                  -- call number ['1']
                  refine y_muV (rest := [.int ((nI (4 * c)) + 2), .ref (m 4)]) hE cl_X4_215 (kX4_number ((p_num I t 1 (h + 1, e, c + 1)).2) t 1 ht ht2 (pB.mono (pB_num I t _ hp0) (by omega)) (by omega)) dX4_command_203 hl (Nat.le_of_ble_eq_true rfl) (y_recv hE rfl hW.1) rfl rfl (Nat.le_of_ble_eq_true rfl) hW (fun _ h => h) ⟨(Nat.le_of_ble_eq_true rfl), (Nat.le_of_ble_eq_true rfl)⟩ (fun vr H hW _ _ => ?_)
                  obtain ⟨hr, hW⟩ := hW
                  subst hr
                  have hW : tW z D m (pG g ((p_num I t 1 ((p_num I t 1 (h + 1, e, c + 1)).2)).2)) B Bs L I (c4 C (4 * c) 97 ((p_num I t 1 (h + 1, e, c + 1)).1) 0 0) H := hW
                  refine y_st (st' := [.int ((p_num I t 1 ((p_num I t 1 (h + 1, e, c + 1)).2)).1), .int ((nI (4 * c)) + 2), .ref (m 4)]) rfl ?_
                  refine t_astC (j := 4 * c + 2) hE hW (nI_add (4 * c) 2) (by omega) dX4_command_206 (fun H hW => ?_)
                  replace hW := hW.cast rfl rfl rfl rfl rfl (c4_2 _ _ _ _ _ _ _)
                  have hW : tW z D m (pG g ((p_num I t 1 ((p_num I t 1 (h + 1, e, c + 1)).2)).2)) B Bs L I (c4 C (4 * c) 97 ((p_num I t 1 (h + 1, e, c + 1)).1) ((p_num I t 1 ((p_num I t 1 (h + 1, e, c + 1)).2)).1) 0) H := hW
                  refine y_iinc (v := 3) (lv' := [(3, .int 3), (2, .int 97), (1, .int (nI (4 * c))), (0, .ref (m 0))]) hE dX4_command_207 hl (k := 0) rfl (rfl) (by decide) rfl (fun ls hl => ?_)
                  refine y_goto (tgt := 189) hE dX4_command_210 (by decide) ?_
                  refine y_iload_n hE dX4_command_189 rfl (lv_at hl 0 rfl) ?_
                  refine y_iconst (v := 4) hE dX4_command_190 (by decide) ?_
                  refine y_icmp_ge (tgt := 213) hE dX4_command_191 (by decide) (fun c191 => ?_) (fun c191 => ?_)
                  · -- t 191
                    exact absurd c191 (by decide)
                  · -- f 191
                    have n191 := Int32.not_le.mp c191
                    refine y_aload_n hE dX4_command_194 rfl (lv_at hl 3 rfl) ?_
                    refine t_get (v := .ref (m 4)) hE 15 (by decide) q1991 rfl hW rfl dX4_command_195 ?_
                    refine y_iload_n hE dX4_command_198 rfl (lv_at hl 2 rfl) ?_
                    refine y_iload_n hE dX4_command_199 rfl (lv_at hl 0 rfl) ?_
                    refine y_iadd hE dX4_command_200 ?_
                    refine y_aload_n hE dX4_command_201 rfl (lv_at hl 3 rfl) ?_
                    refine y_iconst (v := 1) hE dX4_command_202 (by decide) ?_
                    -- call number ['1']
                    refine y_muV (rest := [.int ((nI (4 * c)) + 3), .ref (m 4)]) hE cl_X4_215 (kX4_number ((p_num I t 1 ((p_num I t 1 (h + 1, e, c + 1)).2)).2) t 1 ht ht2 (pB.mono (pB_num I t _ (pB_num I t _ hp0)) (by omega)) (by omega)) dX4_command_203 hl (Nat.le_of_ble_eq_true rfl) (y_recv hE rfl hW.1) rfl rfl (Nat.le_of_ble_eq_true rfl) hW (fun _ h => h) ⟨(Nat.le_of_ble_eq_true rfl), (Nat.le_of_ble_eq_true rfl)⟩ (fun vr H hW _ _ => ?_)
                    obtain ⟨hr, hW⟩ := hW
                    subst hr
                    have hW : tW z D m (pG g ((p_num I t 1 ((p_num I t 1 ((p_num I t 1 (h + 1, e, c + 1)).2)).2)).2)) B Bs L I (c4 C (4 * c) 97 ((p_num I t 1 (h + 1, e, c + 1)).1) ((p_num I t 1 ((p_num I t 1 (h + 1, e, c + 1)).2)).1) 0) H := hW
                    refine y_st (st' := [.int ((p_num I t 1 ((p_num I t 1 ((p_num I t 1 (h + 1, e, c + 1)).2)).2)).1), .int ((nI (4 * c)) + 3), .ref (m 4)]) rfl ?_
                    refine t_astC (j := 4 * c + 3) hE hW (nI_add (4 * c) 3) (by omega) dX4_command_206 (fun H hW => ?_)
                    replace hW := hW.cast rfl rfl rfl rfl rfl (c4_3 _ _ _ _ _ _ _)
                    have hW : tW z D m (pG g ((p_num I t 1 ((p_num I t 1 ((p_num I t 1 (h + 1, e, c + 1)).2)).2)).2)) B Bs L I (c4 C (4 * c) 97 ((p_num I t 1 (h + 1, e, c + 1)).1) ((p_num I t 1 ((p_num I t 1 (h + 1, e, c + 1)).2)).1) ((p_num I t 1 ((p_num I t 1 ((p_num I t 1 (h + 1, e, c + 1)).2)).2)).1)) H := hW
                    refine y_iinc (v := 4) (lv' := [(3, .int 4), (2, .int 97), (1, .int (nI (4 * c))), (0, .ref (m 0))]) hE dX4_command_207 hl (k := 0) rfl (rfl) (by decide) rfl (fun ls hl => ?_)
                    refine y_goto (tgt := 189) hE dX4_command_210 (by decide) ?_
                    refine y_iload_n hE dX4_command_189 rfl (lv_at hl 0 rfl) ?_
                    refine y_iconst (v := 4) hE dX4_command_190 (by decide) ?_
                    refine y_icmp_ge (tgt := 213) hE dX4_command_191 (by decide) (fun c191 => ?_) (fun c191 => ?_)
                    · -- t 191
                      have n191 := Int32.not_lt.mpr c191
                      refine y_goto (tgt := 331) hE dX4_command_213 (by decide) ?_
                      rw [hQ]
                      exact y_vret hE dX4_command_331 ((hW.cast (by simp [p_cmd, p_args, pS.h, pS.e, pS.c, ← e_k, m_let]) rfl rfl rfl rfl (by simp [p_cmdC, p_cmd, p_args, pS.h, pS.e, pS.c, ← e_k, m_let]))) (Nat.le_of_ble_eq_true rfl) (Nat.le_of_ble_eq_true rfl)
                    · -- f 191
                      exact absurd c191 (by decide)
            · -- letter f
              subst hk
              have hW : tW z D m (pG g (h + 1, e, c + 1)) B Bs L I (c4 C (4 * c) 102 0 0 0) H := hW
              have hl : lv_has ls 4 [(3, .int (nI 4)), (2, .int 102), (1, .int (nI (4 * c))), (0, .ref (m 0))] := hl
              refine y_tableIn (off := 240) (tgt := 318) hE dX4_command_78 (by decide) (by decide) rfl (by decide) ?_
              refine y_aload_n hE dX4_command_318 rfl (lv_at hl 3 rfl) ?_
              refine t_get (v := .ref (m 4)) hE 15 (by decide) q1991 rfl hW rfl dX4_command_319 ?_
              refine y_iload_n hE dX4_command_322 rfl (lv_at hl 2 rfl) ?_
              refine y_iconst (v := 1) hE dX4_command_323 (by decide) ?_
              refine y_iadd hE dX4_command_324 ?_
              refine y_aload_n hE dX4_command_325 rfl (lv_at hl 3 rfl) ?_
              refine y_iconst (v := 3) hE dX4_command_326 (by decide) ?_
              -- call number ['3']
              refine y_muV (rest := [.int ((nI (4 * c)) + 1), .ref (m 4)]) hE cl_X4_215 (kX4_number (h + 1, e, c + 1) t 3 ht ht2 (pB.mono hp0 (by omega)) (by omega)) dX4_command_327 hl (Nat.le_of_ble_eq_true rfl) (y_recv hE rfl hW.1) rfl rfl (Nat.le_of_ble_eq_true rfl) hW (fun _ h => h) ⟨(Nat.le_of_ble_eq_true rfl), (Nat.le_of_ble_eq_true rfl)⟩ (fun vr H hW _ _ => ?_)
              obtain ⟨hr, hW⟩ := hW
              subst hr
              have hW : tW z D m (pG g ((p_num I t 3 (h + 1, e, c + 1)).2)) B Bs L I (c4 C (4 * c) 102 0 0 0) H := hW
              refine y_st (st' := [.int ((p_num I t 3 (h + 1, e, c + 1)).1), .int ((nI (4 * c)) + 1), .ref (m 4)]) rfl ?_
              refine t_astC (j := 4 * c + 1) hE hW (nI_add (4 * c) 1) (by omega) dX4_command_330 (fun H hW => ?_)
              replace hW := hW.cast rfl rfl rfl rfl rfl (c4_1 _ _ _ _ _ _ _)
              have hW : tW z D m (pG g ((p_num I t 3 (h + 1, e, c + 1)).2)) B Bs L I (c4 C (4 * c) 102 ((p_num I t 3 (h + 1, e, c + 1)).1) 0 0) H := hW
              rw [hQ]
              exact y_vret hE dX4_command_331 ((hW.cast (by simp [p_cmd, p_args, pS.h, pS.e, pS.c, ← e_k, m_let]) rfl rfl rfl rfl (by simp [p_cmdC, p_cmd, p_args, pS.h, pS.e, pS.c, ← e_k, m_let]))) (Nat.le_of_ble_eq_true rfl) (Nat.le_of_ble_eq_true rfl)
            · -- letter s
              subst hk
              have hW : tW z D m (pG g (h + 1, e, c + 1)) B Bs L I (c4 C (4 * c) 115 0 0 0) H := hW
              have hl : lv_has ls 4 [(3, .int (nI 4)), (2, .int 115), (1, .int (nI (4 * c))), (0, .ref (m 0))] := hl
              refine y_tableIn (off := 166) (tgt := 244) hE dX4_command_78 (by decide) (by decide) rfl (by decide) ?_
              refine y_aload_n hE dX4_command_244 rfl (lv_at hl 3 rfl) ?_
              refine t_get (v := .ref (m 4)) hE 15 (by decide) q1991 rfl hW rfl dX4_command_245 ?_
              refine y_iload_n hE dX4_command_248 rfl (lv_at hl 2 rfl) ?_
              refine y_iconst (v := 1) hE dX4_command_249 (by decide) ?_
              refine y_iadd hE dX4_command_250 ?_
              refine y_aload_n hE dX4_command_251 rfl (lv_at hl 3 rfl) ?_
              refine y_iconst (v := 3) hE dX4_command_252 (by decide) ?_
              -- call number ['3']
              refine y_muV (rest := [.int ((nI (4 * c)) + 1), .ref (m 4)]) hE cl_X4_215 (kX4_number (h + 1, e, c + 1) t 3 ht ht2 (pB.mono hp0 (by omega)) (by omega)) dX4_command_253 hl (Nat.le_of_ble_eq_true rfl) (y_recv hE rfl hW.1) rfl rfl (Nat.le_of_ble_eq_true rfl) hW (fun _ h => h) ⟨(Nat.le_of_ble_eq_true rfl), (Nat.le_of_ble_eq_true rfl)⟩ (fun vr H hW _ _ => ?_)
              obtain ⟨hr, hW⟩ := hW
              subst hr
              have hW : tW z D m (pG g ((p_num I t 3 (h + 1, e, c + 1)).2)) B Bs L I (c4 C (4 * c) 115 0 0 0) H := hW
              refine y_st (st' := [.int ((p_num I t 3 (h + 1, e, c + 1)).1), .int ((nI (4 * c)) + 1), .ref (m 4)]) rfl ?_
              refine t_astC (j := 4 * c + 1) hE hW (nI_add (4 * c) 1) (by omega) dX4_command_256 (fun H hW => ?_)
              replace hW := hW.cast rfl rfl rfl rfl rfl (c4_1 _ _ _ _ _ _ _)
              have hW : tW z D m (pG g ((p_num I t 3 (h + 1, e, c + 1)).2)) B Bs L I (c4 C (4 * c) 115 ((p_num I t 3 (h + 1, e, c + 1)).1) 0 0) H := hW
              refine y_aload_n hE dX4_command_257 rfl (lv_at hl 3 rfl) ?_
              refine t_get (v := .ref (m 4)) hE 15 (by decide) q1991 rfl hW rfl dX4_command_258 ?_
              refine y_iload_n hE dX4_command_261 rfl (lv_at hl 2 rfl) ?_
              refine y_iconst (v := 2) hE dX4_command_262 (by decide) ?_
              refine y_iadd hE dX4_command_263 ?_
              refine y_aload_n hE dX4_command_264 rfl (lv_at hl 3 rfl) ?_
              refine y_bipush (v := 58) hE dX4_command_265 (by decide) ?_
              -- call behind ['58']
              refine y_muV (rest := [.int ((nI (4 * c)) + 2), .ref (m 4)]) hE cl_X4_227 (kX4_behind ((p_num I t 3 (h + 1, e, c + 1)).2) t 58 ht ht2 (pB.mono (pB_num I t _ hp0) (by omega))) dX4_command_267 hl (Nat.le_of_ble_eq_true rfl) (y_recv hE rfl hW.1) rfl rfl (Nat.le_of_ble_eq_true rfl) hW (fun _ h => h) ⟨(Nat.le_of_ble_eq_true rfl), (Nat.le_of_ble_eq_true rfl)⟩ (fun vr H hW _ _ => ?_)
              obtain ⟨hr, hW⟩ := hW
              subst hr
              have hW : tW z D m (pG g ((p_beh I t 58 ((p_num I t 3 (h + 1, e, c + 1)).2)).2)) B Bs L I (c4 C (4 * c) 115 ((p_num I t 3 (h + 1, e, c + 1)).1) 0 0) H := hW
              refine y_st (st' := [.int ((p_beh I t 58 ((p_num I t 3 (h + 1, e, c + 1)).2)).1), .int ((nI (4 * c)) + 2), .ref (m 4)]) rfl ?_
              refine t_astC (j := 4 * c + 2) hE hW (nI_add (4 * c) 2) (by omega) dX4_command_270 (fun H hW => ?_)
              replace hW := hW.cast rfl rfl rfl rfl rfl (c4_2 _ _ _ _ _ _ _)
              have hW : tW z D m (pG g ((p_beh I t 58 ((p_num I t 3 (h + 1, e, c + 1)).2)).2)) B Bs L I (c4 C (4 * c) 115 ((p_num I t 3 (h + 1, e, c + 1)).1) ((p_beh I t 58 ((p_num I t 3 (h + 1, e, c + 1)).2)).1) 0) H := hW
              refine y_goto (tgt := 331) hE dX4_command_271 (by decide) ?_
              rw [hQ]
              exact y_vret hE dX4_command_331 ((hW.cast (by simp [p_cmd, p_args, pS.h, pS.e, pS.c, ← e_k, m_let]) rfl rfl rfl rfl (by simp [p_cmdC, p_cmd, p_args, pS.h, pS.e, pS.c, ← e_k, m_let]))) (Nat.le_of_ble_eq_true rfl) (Nat.le_of_ble_eq_true rfl)
            · -- letter r
              subst hk
              have hW : tW z D m (pG g (h + 1, e, c + 1)) B Bs L I (c4 C (4 * c) 114 0 0 0) H := hW
              have hl : lv_has ls 4 [(3, .int (nI 4)), (2, .int 114), (1, .int (nI (4 * c))), (0, .ref (m 0))] := hl
              refine y_tableIn (off := 240) (tgt := 318) hE dX4_command_78 (by decide) (by decide) rfl (by decide) ?_
              refine y_aload_n hE dX4_command_318 rfl (lv_at hl 3 rfl) ?_
              refine t_get (v := .ref (m 4)) hE 15 (by decide) q1991 rfl hW rfl dX4_command_319 ?_
              refine y_iload_n hE dX4_command_322 rfl (lv_at hl 2 rfl) ?_
              refine y_iconst (v := 1) hE dX4_command_323 (by decide) ?_
              refine y_iadd hE dX4_command_324 ?_
              refine y_aload_n hE dX4_command_325 rfl (lv_at hl 3 rfl) ?_
              refine y_iconst (v := 3) hE dX4_command_326 (by decide) ?_
              -- call number ['3']
              refine y_muV (rest := [.int ((nI (4 * c)) + 1), .ref (m 4)]) hE cl_X4_215 (kX4_number (h + 1, e, c + 1) t 3 ht ht2 (pB.mono hp0 (by omega)) (by omega)) dX4_command_327 hl (Nat.le_of_ble_eq_true rfl) (y_recv hE rfl hW.1) rfl rfl (Nat.le_of_ble_eq_true rfl) hW (fun _ h => h) ⟨(Nat.le_of_ble_eq_true rfl), (Nat.le_of_ble_eq_true rfl)⟩ (fun vr H hW _ _ => ?_)
              obtain ⟨hr, hW⟩ := hW
              subst hr
              have hW : tW z D m (pG g ((p_num I t 3 (h + 1, e, c + 1)).2)) B Bs L I (c4 C (4 * c) 114 0 0 0) H := hW
              refine y_st (st' := [.int ((p_num I t 3 (h + 1, e, c + 1)).1), .int ((nI (4 * c)) + 1), .ref (m 4)]) rfl ?_
              refine t_astC (j := 4 * c + 1) hE hW (nI_add (4 * c) 1) (by omega) dX4_command_330 (fun H hW => ?_)
              replace hW := hW.cast rfl rfl rfl rfl rfl (c4_1 _ _ _ _ _ _ _)
              have hW : tW z D m (pG g ((p_num I t 3 (h + 1, e, c + 1)).2)) B Bs L I (c4 C (4 * c) 114 ((p_num I t 3 (h + 1, e, c + 1)).1) 0 0) H := hW
              rw [hQ]
              exact y_vret hE dX4_command_331 ((hW.cast (by simp [p_cmd, p_args, pS.h, pS.e, pS.c, ← e_k, m_let]) rfl rfl rfl rfl (by simp [p_cmdC, p_cmd, p_args, pS.h, pS.e, pS.c, ← e_k, m_let]))) (Nat.le_of_ble_eq_true rfl) (Nat.le_of_ble_eq_true rfl)
            · -- letter c
              subst hk
              have hW : tW z D m (pG g (h + 1, e, c + 1)) B Bs L I (c4 C (4 * c) 99 0 0 0) H := hW
              have hl : lv_has ls 4 [(3, .int (nI 4)), (2, .int 99), (1, .int (nI (4 * c))), (0, .ref (m 0))] := hl
              refine y_tableIn (off := 166) (tgt := 244) hE dX4_command_78 (by decide) (by decide) rfl (by decide) ?_
              refine y_aload_n hE dX4_command_244 rfl (lv_at hl 3 rfl) ?_
              refine t_get (v := .ref (m 4)) hE 15 (by decide) q1991 rfl hW rfl dX4_command_245 ?_
              refine y_iload_n hE dX4_command_248 rfl (lv_at hl 2 rfl) ?_
              refine y_iconst (v := 1) hE dX4_command_249 (by decide) ?_
              refine y_iadd hE dX4_command_250 ?_
              refine y_aload_n hE dX4_command_251 rfl (lv_at hl 3 rfl) ?_
              refine y_iconst (v := 3) hE dX4_command_252 (by decide) ?_
              -- call number ['3']
              refine y_muV (rest := [.int ((nI (4 * c)) + 1), .ref (m 4)]) hE cl_X4_215 (kX4_number (h + 1, e, c + 1) t 3 ht ht2 (pB.mono hp0 (by omega)) (by omega)) dX4_command_253 hl (Nat.le_of_ble_eq_true rfl) (y_recv hE rfl hW.1) rfl rfl (Nat.le_of_ble_eq_true rfl) hW (fun _ h => h) ⟨(Nat.le_of_ble_eq_true rfl), (Nat.le_of_ble_eq_true rfl)⟩ (fun vr H hW _ _ => ?_)
              obtain ⟨hr, hW⟩ := hW
              subst hr
              have hW : tW z D m (pG g ((p_num I t 3 (h + 1, e, c + 1)).2)) B Bs L I (c4 C (4 * c) 99 0 0 0) H := hW
              refine y_st (st' := [.int ((p_num I t 3 (h + 1, e, c + 1)).1), .int ((nI (4 * c)) + 1), .ref (m 4)]) rfl ?_
              refine t_astC (j := 4 * c + 1) hE hW (nI_add (4 * c) 1) (by omega) dX4_command_256 (fun H hW => ?_)
              replace hW := hW.cast rfl rfl rfl rfl rfl (c4_1 _ _ _ _ _ _ _)
              have hW : tW z D m (pG g ((p_num I t 3 (h + 1, e, c + 1)).2)) B Bs L I (c4 C (4 * c) 99 ((p_num I t 3 (h + 1, e, c + 1)).1) 0 0) H := hW
              refine y_aload_n hE dX4_command_257 rfl (lv_at hl 3 rfl) ?_
              refine t_get (v := .ref (m 4)) hE 15 (by decide) q1991 rfl hW rfl dX4_command_258 ?_
              refine y_iload_n hE dX4_command_261 rfl (lv_at hl 2 rfl) ?_
              refine y_iconst (v := 2) hE dX4_command_262 (by decide) ?_
              refine y_iadd hE dX4_command_263 ?_
              refine y_aload_n hE dX4_command_264 rfl (lv_at hl 3 rfl) ?_
              refine y_bipush (v := 58) hE dX4_command_265 (by decide) ?_
              -- call behind ['58']
              refine y_muV (rest := [.int ((nI (4 * c)) + 2), .ref (m 4)]) hE cl_X4_227 (kX4_behind ((p_num I t 3 (h + 1, e, c + 1)).2) t 58 ht ht2 (pB.mono (pB_num I t _ hp0) (by omega))) dX4_command_267 hl (Nat.le_of_ble_eq_true rfl) (y_recv hE rfl hW.1) rfl rfl (Nat.le_of_ble_eq_true rfl) hW (fun _ h => h) ⟨(Nat.le_of_ble_eq_true rfl), (Nat.le_of_ble_eq_true rfl)⟩ (fun vr H hW _ _ => ?_)
              obtain ⟨hr, hW⟩ := hW
              subst hr
              have hW : tW z D m (pG g ((p_beh I t 58 ((p_num I t 3 (h + 1, e, c + 1)).2)).2)) B Bs L I (c4 C (4 * c) 99 ((p_num I t 3 (h + 1, e, c + 1)).1) 0 0) H := hW
              refine y_st (st' := [.int ((p_beh I t 58 ((p_num I t 3 (h + 1, e, c + 1)).2)).1), .int ((nI (4 * c)) + 2), .ref (m 4)]) rfl ?_
              refine t_astC (j := 4 * c + 2) hE hW (nI_add (4 * c) 2) (by omega) dX4_command_270 (fun H hW => ?_)
              replace hW := hW.cast rfl rfl rfl rfl rfl (c4_2 _ _ _ _ _ _ _)
              have hW : tW z D m (pG g ((p_beh I t 58 ((p_num I t 3 (h + 1, e, c + 1)).2)).2)) B Bs L I (c4 C (4 * c) 99 ((p_num I t 3 (h + 1, e, c + 1)).1) ((p_beh I t 58 ((p_num I t 3 (h + 1, e, c + 1)).2)).1) 0) H := hW
              refine y_goto (tgt := 331) hE dX4_command_271 (by decide) ?_
              rw [hQ]
              exact y_vret hE dX4_command_331 ((hW.cast (by simp [p_cmd, p_args, pS.h, pS.e, pS.c, ← e_k, m_let]) rfl rfl rfl rfl (by simp [p_cmdC, p_cmd, p_args, pS.h, pS.e, pS.c, ← e_k, m_let]))) (Nat.le_of_ble_eq_true rfl) (Nat.le_of_ble_eq_true rfl)
            · -- letter u
              subst hk
              have hW : tW z D m (pG g (h + 1, e, c + 1)) B Bs L I (c4 C (4 * c) 117 0 0 0) H := hW
              have hl : lv_has ls 4 [(3, .int (nI 4)), (2, .int 117), (1, .int (nI (4 * c))), (0, .ref (m 0))] := hl
              refine y_tableIn (off := 240) (tgt := 318) hE dX4_command_78 (by decide) (by decide) rfl (by decide) ?_
              refine y_aload_n hE dX4_command_318 rfl (lv_at hl 3 rfl) ?_
              refine t_get (v := .ref (m 4)) hE 15 (by decide) q1991 rfl hW rfl dX4_command_319 ?_
              refine y_iload_n hE dX4_command_322 rfl (lv_at hl 2 rfl) ?_
              refine y_iconst (v := 1) hE dX4_command_323 (by decide) ?_
              refine y_iadd hE dX4_command_324 ?_
              refine y_aload_n hE dX4_command_325 rfl (lv_at hl 3 rfl) ?_
              refine y_iconst (v := 3) hE dX4_command_326 (by decide) ?_
              -- call number ['3']
              refine y_muV (rest := [.int ((nI (4 * c)) + 1), .ref (m 4)]) hE cl_X4_215 (kX4_number (h + 1, e, c + 1) t 3 ht ht2 (pB.mono hp0 (by omega)) (by omega)) dX4_command_327 hl (Nat.le_of_ble_eq_true rfl) (y_recv hE rfl hW.1) rfl rfl (Nat.le_of_ble_eq_true rfl) hW (fun _ h => h) ⟨(Nat.le_of_ble_eq_true rfl), (Nat.le_of_ble_eq_true rfl)⟩ (fun vr H hW _ _ => ?_)
              obtain ⟨hr, hW⟩ := hW
              subst hr
              have hW : tW z D m (pG g ((p_num I t 3 (h + 1, e, c + 1)).2)) B Bs L I (c4 C (4 * c) 117 0 0 0) H := hW
              refine y_st (st' := [.int ((p_num I t 3 (h + 1, e, c + 1)).1), .int ((nI (4 * c)) + 1), .ref (m 4)]) rfl ?_
              refine t_astC (j := 4 * c + 1) hE hW (nI_add (4 * c) 1) (by omega) dX4_command_330 (fun H hW => ?_)
              replace hW := hW.cast rfl rfl rfl rfl rfl (c4_1 _ _ _ _ _ _ _)
              have hW : tW z D m (pG g ((p_num I t 3 (h + 1, e, c + 1)).2)) B Bs L I (c4 C (4 * c) 117 ((p_num I t 3 (h + 1, e, c + 1)).1) 0 0) H := hW
              rw [hQ]
              exact y_vret hE dX4_command_331 ((hW.cast (by simp [p_cmd, p_args, pS.h, pS.e, pS.c, ← e_k, m_let]) rfl rfl rfl rfl (by simp [p_cmdC, p_cmd, p_args, pS.h, pS.e, pS.c, ← e_k, m_let]))) (Nat.le_of_ble_eq_true rfl) (Nat.le_of_ble_eq_true rfl)
            · -- letter w
              subst hk
              have hW : tW z D m (pG g (h + 1, e, c + 1)) B Bs L I (c4 C (4 * c) 119 0 0 0) H := hW
              have hl : lv_has ls 4 [(3, .int (nI 4)), (2, .int 119), (1, .int (nI (4 * c))), (0, .ref (m 0))] := hl
              refine y_tableIn (off := 138) (tgt := 216) hE dX4_command_78 (by decide) (by decide) rfl (by decide) ?_
              refine y_aload_n hE dX4_command_216 rfl (lv_at hl 3 rfl) ?_
              refine t_get (v := .ref (m 4)) hE 15 (by decide) q1991 rfl hW rfl dX4_command_217 ?_
              refine y_iload_n hE dX4_command_220 rfl (lv_at hl 2 rfl) ?_
              refine y_iconst (v := 1) hE dX4_command_221 (by decide) ?_
              refine y_iadd hE dX4_command_222 ?_
              refine y_aload_n hE dX4_command_223 rfl (lv_at hl 3 rfl) ?_
              -- call way []
              refine y_muV (rest := [.int ((nI (4 * c)) + 1), .ref (m 4)]) hE cl_X4_224 (kX4_way (h + 1, e, c + 1) t ht ht2 (pB.mono hp0 (by omega))) dX4_command_224 hl (Nat.le_of_ble_eq_true rfl) (y_recv hE rfl hW.1) rfl rfl (Nat.le_of_ble_eq_true rfl) hW (fun _ h => h) ⟨(Nat.le_of_ble_eq_true rfl), (Nat.le_of_ble_eq_true rfl)⟩ (fun vr H hW _ _ => ?_)
              obtain ⟨hr, hW⟩ := hW
              subst hr
              have hW : tW z D m (pG g ((p_way I t (h + 1, e, c + 1)).2)) B Bs L I (c4 C (4 * c) 119 0 0 0) H := hW
              refine y_st (st' := [.int ((p_way I t (h + 1, e, c + 1)).1), .int ((nI (4 * c)) + 1), .ref (m 4)]) rfl ?_
              refine t_astC (j := 4 * c + 1) hE hW (nI_add (4 * c) 1) (by omega) dX4_command_227 (fun H hW => ?_)
              replace hW := hW.cast rfl rfl rfl rfl rfl (c4_1 _ _ _ _ _ _ _)
              have hW : tW z D m (pG g ((p_way I t (h + 1, e, c + 1)).2)) B Bs L I (c4 C (4 * c) 119 ((p_way I t (h + 1, e, c + 1)).1) 0 0) H := hW
              refine y_aload_n hE dX4_command_228 rfl (lv_at hl 3 rfl) ?_
              refine t_get (v := .ref (m 4)) hE 15 (by decide) q1991 rfl hW rfl dX4_command_229 ?_
              refine y_iload_n hE dX4_command_232 rfl (lv_at hl 2 rfl) ?_
              refine y_iconst (v := 2) hE dX4_command_233 (by decide) ?_
              refine y_iadd hE dX4_command_234 ?_
              refine y_aload_n hE dX4_command_235 rfl (lv_at hl 3 rfl) ?_
              refine y_iconst (v := 3) hE dX4_command_236 (by decide) ?_
              -- call number ['3']
              refine y_muV (rest := [.int ((nI (4 * c)) + 2), .ref (m 4)]) hE cl_X4_215 (kX4_number ((p_way I t (h + 1, e, c + 1)).2) t 3 ht ht2 (pB.mono (pB_way I t hp0) (by omega)) (by omega)) dX4_command_237 hl (Nat.le_of_ble_eq_true rfl) (y_recv hE rfl hW.1) rfl rfl (Nat.le_of_ble_eq_true rfl) hW (fun _ h => h) ⟨(Nat.le_of_ble_eq_true rfl), (Nat.le_of_ble_eq_true rfl)⟩ (fun vr H hW _ _ => ?_)
              obtain ⟨hr, hW⟩ := hW
              subst hr
              have hW : tW z D m (pG g ((p_num I t 3 ((p_way I t (h + 1, e, c + 1)).2)).2)) B Bs L I (c4 C (4 * c) 119 ((p_way I t (h + 1, e, c + 1)).1) 0 0) H := hW
              refine y_st (st' := [.int ((p_num I t 3 ((p_way I t (h + 1, e, c + 1)).2)).1), .int ((nI (4 * c)) + 2), .ref (m 4)]) rfl ?_
              refine t_astC (j := 4 * c + 2) hE hW (nI_add (4 * c) 2) (by omega) dX4_command_240 (fun H hW => ?_)
              replace hW := hW.cast rfl rfl rfl rfl rfl (c4_2 _ _ _ _ _ _ _)
              have hW : tW z D m (pG g ((p_num I t 3 ((p_way I t (h + 1, e, c + 1)).2)).2)) B Bs L I (c4 C (4 * c) 119 ((p_way I t (h + 1, e, c + 1)).1) ((p_num I t 3 ((p_way I t (h + 1, e, c + 1)).2)).1) 0) H := hW
              refine y_goto (tgt := 331) hE dX4_command_241 (by decide) ?_
              rw [hQ]
              exact y_vret hE dX4_command_331 ((hW.cast (by simp [p_cmd, p_args, pS.h, pS.e, pS.c, ← e_k, m_let]) rfl rfl rfl rfl (by simp [p_cmdC, p_cmd, p_args, pS.h, pS.e, pS.c, ← e_k, m_let]))) (Nat.le_of_ble_eq_true rfl) (Nat.le_of_ble_eq_true rfl)
            · -- letter g
              subst hk
              have hW : tW z D m (pG g (h + 1, e, c + 1)) B Bs L I (c4 C (4 * c) 103 0 0 0) H := hW
              have hl : lv_has ls 4 [(3, .int (nI 4)), (2, .int 103), (1, .int (nI (4 * c))), (0, .ref (m 0))] := hl
              refine y_tableIn (off := 240) (tgt := 318) hE dX4_command_78 (by decide) (by decide) rfl (by decide) ?_
              refine y_aload_n hE dX4_command_318 rfl (lv_at hl 3 rfl) ?_
              refine t_get (v := .ref (m 4)) hE 15 (by decide) q1991 rfl hW rfl dX4_command_319 ?_
              refine y_iload_n hE dX4_command_322 rfl (lv_at hl 2 rfl) ?_
              refine y_iconst (v := 1) hE dX4_command_323 (by decide) ?_
              refine y_iadd hE dX4_command_324 ?_
              refine y_aload_n hE dX4_command_325 rfl (lv_at hl 3 rfl) ?_
              refine y_iconst (v := 3) hE dX4_command_326 (by decide) ?_
              -- call number ['3']
              refine y_muV (rest := [.int ((nI (4 * c)) + 1), .ref (m 4)]) hE cl_X4_215 (kX4_number (h + 1, e, c + 1) t 3 ht ht2 (pB.mono hp0 (by omega)) (by omega)) dX4_command_327 hl (Nat.le_of_ble_eq_true rfl) (y_recv hE rfl hW.1) rfl rfl (Nat.le_of_ble_eq_true rfl) hW (fun _ h => h) ⟨(Nat.le_of_ble_eq_true rfl), (Nat.le_of_ble_eq_true rfl)⟩ (fun vr H hW _ _ => ?_)
              obtain ⟨hr, hW⟩ := hW
              subst hr
              have hW : tW z D m (pG g ((p_num I t 3 (h + 1, e, c + 1)).2)) B Bs L I (c4 C (4 * c) 103 0 0 0) H := hW
              refine y_st (st' := [.int ((p_num I t 3 (h + 1, e, c + 1)).1), .int ((nI (4 * c)) + 1), .ref (m 4)]) rfl ?_
              refine t_astC (j := 4 * c + 1) hE hW (nI_add (4 * c) 1) (by omega) dX4_command_330 (fun H hW => ?_)
              replace hW := hW.cast rfl rfl rfl rfl rfl (c4_1 _ _ _ _ _ _ _)
              have hW : tW z D m (pG g ((p_num I t 3 (h + 1, e, c + 1)).2)) B Bs L I (c4 C (4 * c) 103 ((p_num I t 3 (h + 1, e, c + 1)).1) 0 0) H := hW
              rw [hQ]
              exact y_vret hE dX4_command_331 ((hW.cast (by simp [p_cmd, p_args, pS.h, pS.e, pS.c, ← e_k, m_let]) rfl rfl rfl rfl (by simp [p_cmdC, p_cmd, p_args, pS.h, pS.e, pS.c, ← e_k, m_let]))) (Nat.le_of_ble_eq_true rfl) (Nat.le_of_ble_eq_true rfl)
            · -- letter d
              subst hk
              have hW : tW z D m (pG g (h + 1, e, c + 1)) B Bs L I (c4 C (4 * c) 100 0 0 0) H := hW
              have hl : lv_has ls 4 [(3, .int (nI 4)), (2, .int 100), (1, .int (nI (4 * c))), (0, .ref (m 0))] := hl
              refine y_tableIn (off := 106) (tgt := 184) hE dX4_command_78 (by decide) (by decide) rfl (by decide) ?_
              refine y_goto (tgt := 331) hE dX4_command_184 (by decide) ?_
              rw [hQ]
              exact y_vret hE dX4_command_331 ((hW.cast (by simp [p_cmd, p_args, pS.h, pS.e, pS.c, ← e_k, m_let]) rfl rfl rfl rfl (by simp [p_cmdC, p_cmd, p_args, pS.h, pS.e, pS.c, ← e_k, m_let]))) (Nat.le_of_ble_eq_true rfl) (Nat.le_of_ble_eq_true rfl)
            · -- letter v
              subst hk
              have hW : tW z D m (pG g (h + 1, e, c + 1)) B Bs L I (c4 C (4 * c) 118 0 0 0) H := hW
              have hl : lv_has ls 4 [(3, .int (nI 4)), (2, .int 118), (1, .int (nI (4 * c))), (0, .ref (m 0))] := hl
              refine y_tableIn (off := 106) (tgt := 184) hE dX4_command_78 (by decide) (by decide) rfl (by decide) ?_
              refine y_goto (tgt := 331) hE dX4_command_184 (by decide) ?_
              rw [hQ]
              exact y_vret hE dX4_command_331 ((hW.cast (by simp [p_cmd, p_args, pS.h, pS.e, pS.c, ← e_k, m_let]) rfl rfl rfl rfl (by simp [p_cmdC, p_cmd, p_args, pS.h, pS.e, pS.c, ← e_k, m_let]))) (Nat.le_of_ble_eq_true rfl) (Nat.le_of_ble_eq_true rfl)
            · -- letter b
              subst hk
              have hW : tW z D m (pG g (h + 1, e, c + 1)) B Bs L I (c4 C (4 * c) 98 0 0 0) H := hW
              have hl : lv_has ls 4 [(3, .int (nI 4)), (2, .int 98), (1, .int (nI (4 * c))), (0, .ref (m 0))] := hl
              refine y_tableIn (off := 196) (tgt := 274) hE dX4_command_78 (by decide) (by decide) rfl (by decide) ?_
              refine y_aload_n hE dX4_command_274 rfl (lv_at hl 3 rfl) ?_
              refine t_get (v := .ref (m 4)) hE 15 (by decide) q1991 rfl hW rfl dX4_command_275 ?_
              refine y_iload_n hE dX4_command_278 rfl (lv_at hl 2 rfl) ?_
              refine y_iconst (v := 1) hE dX4_command_279 (by decide) ?_
              refine y_iadd hE dX4_command_280 ?_
              refine y_aload_n hE dX4_command_281 rfl (lv_at hl 3 rfl) ?_
              refine y_iconst (v := 3) hE dX4_command_282 (by decide) ?_
              -- call number ['3']
              refine y_muV (rest := [.int ((nI (4 * c)) + 1), .ref (m 4)]) hE cl_X4_215 (kX4_number (h + 1, e, c + 1) t 3 ht ht2 (pB.mono hp0 (by omega)) (by omega)) dX4_command_283 hl (Nat.le_of_ble_eq_true rfl) (y_recv hE rfl hW.1) rfl rfl (Nat.le_of_ble_eq_true rfl) hW (fun _ h => h) ⟨(Nat.le_of_ble_eq_true rfl), (Nat.le_of_ble_eq_true rfl)⟩ (fun vr H hW _ _ => ?_)
              obtain ⟨hr, hW⟩ := hW
              subst hr
              have hW : tW z D m (pG g ((p_num I t 3 (h + 1, e, c + 1)).2)) B Bs L I (c4 C (4 * c) 98 0 0 0) H := hW
              refine y_st (st' := [.int ((p_num I t 3 (h + 1, e, c + 1)).1), .int ((nI (4 * c)) + 1), .ref (m 4)]) rfl ?_
              refine t_astC (j := 4 * c + 1) hE hW (nI_add (4 * c) 1) (by omega) dX4_command_286 (fun H hW => ?_)
              replace hW := hW.cast rfl rfl rfl rfl rfl (c4_1 _ _ _ _ _ _ _)
              have hW : tW z D m (pG g ((p_num I t 3 (h + 1, e, c + 1)).2)) B Bs L I (c4 C (4 * c) 98 ((p_num I t 3 (h + 1, e, c + 1)).1) 0 0) H := hW
              refine y_aload_n hE dX4_command_287 rfl (lv_at hl 3 rfl) ?_
              refine t_get (v := .ref (m 4)) hE 15 (by decide) q1991 rfl hW rfl dX4_command_288 ?_
              refine y_iload_n hE dX4_command_291 rfl (lv_at hl 2 rfl) ?_
              refine y_iconst (v := 2) hE dX4_command_292 (by decide) ?_
              refine y_iadd hE dX4_command_293 ?_
              refine y_aload_n hE dX4_command_294 rfl (lv_at hl 3 rfl) ?_
              refine y_bipush (v := 58) hE dX4_command_295 (by decide) ?_
              -- call behind ['58']
              refine y_muV (rest := [.int ((nI (4 * c)) + 2), .ref (m 4)]) hE cl_X4_227 (kX4_behind ((p_num I t 3 (h + 1, e, c + 1)).2) t 58 ht ht2 (pB.mono (pB_num I t _ hp0) (by omega))) dX4_command_297 hl (Nat.le_of_ble_eq_true rfl) (y_recv hE rfl hW.1) rfl rfl (Nat.le_of_ble_eq_true rfl) hW (fun _ h => h) ⟨(Nat.le_of_ble_eq_true rfl), (Nat.le_of_ble_eq_true rfl)⟩ (fun vr H hW _ _ => ?_)
              obtain ⟨hr, hW⟩ := hW
              subst hr
              have hW : tW z D m (pG g ((p_beh I t 58 ((p_num I t 3 (h + 1, e, c + 1)).2)).2)) B Bs L I (c4 C (4 * c) 98 ((p_num I t 3 (h + 1, e, c + 1)).1) 0 0) H := hW
              refine y_st (st' := [.int ((p_beh I t 58 ((p_num I t 3 (h + 1, e, c + 1)).2)).1), .int ((nI (4 * c)) + 2), .ref (m 4)]) rfl ?_
              refine t_astC (j := 4 * c + 2) hE hW (nI_add (4 * c) 2) (by omega) dX4_command_300 (fun H hW => ?_)
              replace hW := hW.cast rfl rfl rfl rfl rfl (c4_2 _ _ _ _ _ _ _)
              have hW : tW z D m (pG g ((p_beh I t 58 ((p_num I t 3 (h + 1, e, c + 1)).2)).2)) B Bs L I (c4 C (4 * c) 98 ((p_num I t 3 (h + 1, e, c + 1)).1) ((p_beh I t 58 ((p_num I t 3 (h + 1, e, c + 1)).2)).1) 0) H := hW
              refine y_aload_n hE dX4_command_301 rfl (lv_at hl 3 rfl) ?_
              refine t_get (v := .ref (m 4)) hE 15 (by decide) q1991 rfl hW rfl dX4_command_302 ?_
              refine y_iload_n hE dX4_command_305 rfl (lv_at hl 2 rfl) ?_
              refine y_iconst (v := 3) hE dX4_command_306 (by decide) ?_
              refine y_iadd hE dX4_command_307 ?_
              refine y_aload_n hE dX4_command_308 rfl (lv_at hl 3 rfl) ?_
              refine y_bipush (v := 42) hE dX4_command_309 (by decide) ?_
              -- call behind ['42']
              refine y_muV (rest := [.int ((nI (4 * c)) + 3), .ref (m 4)]) hE cl_X4_227 (kX4_behind ((p_beh I t 58 ((p_num I t 3 (h + 1, e, c + 1)).2)).2) t 42 ht ht2 (pB.mono (pB_beh I t _ (pB_num I t _ hp0)) (by omega))) dX4_command_311 hl (Nat.le_of_ble_eq_true rfl) (y_recv hE rfl hW.1) rfl rfl (Nat.le_of_ble_eq_true rfl) hW (fun _ h => h) ⟨(Nat.le_of_ble_eq_true rfl), (Nat.le_of_ble_eq_true rfl)⟩ (fun vr H hW _ _ => ?_)
              obtain ⟨hr, hW⟩ := hW
              subst hr
              have hW : tW z D m (pG g ((p_beh I t 42 ((p_beh I t 58 ((p_num I t 3 (h + 1, e, c + 1)).2)).2)).2)) B Bs L I (c4 C (4 * c) 98 ((p_num I t 3 (h + 1, e, c + 1)).1) ((p_beh I t 58 ((p_num I t 3 (h + 1, e, c + 1)).2)).1) 0) H := hW
              refine y_st (st' := [.int ((p_beh I t 42 ((p_beh I t 58 ((p_num I t 3 (h + 1, e, c + 1)).2)).2)).1), .int ((nI (4 * c)) + 3), .ref (m 4)]) rfl ?_
              refine t_astC (j := 4 * c + 3) hE hW (nI_add (4 * c) 3) (by omega) dX4_command_314 (fun H hW => ?_)
              replace hW := hW.cast rfl rfl rfl rfl rfl (c4_3 _ _ _ _ _ _ _)
              have hW : tW z D m (pG g ((p_beh I t 42 ((p_beh I t 58 ((p_num I t 3 (h + 1, e, c + 1)).2)).2)).2)) B Bs L I (c4 C (4 * c) 98 ((p_num I t 3 (h + 1, e, c + 1)).1) ((p_beh I t 58 ((p_num I t 3 (h + 1, e, c + 1)).2)).1) ((p_beh I t 42 ((p_beh I t 58 ((p_num I t 3 (h + 1, e, c + 1)).2)).2)).1)) H := hW
              refine y_goto (tgt := 331) hE dX4_command_315 (by decide) ?_
              rw [hQ]
              exact y_vret hE dX4_command_331 ((hW.cast (by simp [p_cmd, p_args, pS.h, pS.e, pS.c, ← e_k, m_let]) rfl rfl rfl rfl (by simp [p_cmdC, p_cmd, p_args, pS.h, pS.e, pS.c, ← e_k, m_let]))) (Nat.le_of_ble_eq_true rfl) (Nat.le_of_ble_eq_true rfl)
            · -- letter q
              subst hk
              have hW : tW z D m (pG g (h + 1, e, c + 1)) B Bs L I (c4 C (4 * c) 113 0 0 0) H := hW
              have hl : lv_has ls 4 [(3, .int (nI 4)), (2, .int 113), (1, .int (nI (4 * c))), (0, .ref (m 0))] := hl
              refine y_tableIn (off := 240) (tgt := 318) hE dX4_command_78 (by decide) (by decide) rfl (by decide) ?_
              refine y_aload_n hE dX4_command_318 rfl (lv_at hl 3 rfl) ?_
              refine t_get (v := .ref (m 4)) hE 15 (by decide) q1991 rfl hW rfl dX4_command_319 ?_
              refine y_iload_n hE dX4_command_322 rfl (lv_at hl 2 rfl) ?_
              refine y_iconst (v := 1) hE dX4_command_323 (by decide) ?_
              refine y_iadd hE dX4_command_324 ?_
              refine y_aload_n hE dX4_command_325 rfl (lv_at hl 3 rfl) ?_
              refine y_iconst (v := 3) hE dX4_command_326 (by decide) ?_
              -- call number ['3']
              refine y_muV (rest := [.int ((nI (4 * c)) + 1), .ref (m 4)]) hE cl_X4_215 (kX4_number (h + 1, e, c + 1) t 3 ht ht2 (pB.mono hp0 (by omega)) (by omega)) dX4_command_327 hl (Nat.le_of_ble_eq_true rfl) (y_recv hE rfl hW.1) rfl rfl (Nat.le_of_ble_eq_true rfl) hW (fun _ h => h) ⟨(Nat.le_of_ble_eq_true rfl), (Nat.le_of_ble_eq_true rfl)⟩ (fun vr H hW _ _ => ?_)
              obtain ⟨hr, hW⟩ := hW
              subst hr
              have hW : tW z D m (pG g ((p_num I t 3 (h + 1, e, c + 1)).2)) B Bs L I (c4 C (4 * c) 113 0 0 0) H := hW
              refine y_st (st' := [.int ((p_num I t 3 (h + 1, e, c + 1)).1), .int ((nI (4 * c)) + 1), .ref (m 4)]) rfl ?_
              refine t_astC (j := 4 * c + 1) hE hW (nI_add (4 * c) 1) (by omega) dX4_command_330 (fun H hW => ?_)
              replace hW := hW.cast rfl rfl rfl rfl rfl (c4_1 _ _ _ _ _ _ _)
              have hW : tW z D m (pG g ((p_num I t 3 (h + 1, e, c + 1)).2)) B Bs L I (c4 C (4 * c) 113 ((p_num I t 3 (h + 1, e, c + 1)).1) 0 0) H := hW
              rw [hQ]
              exact y_vret hE dX4_command_331 ((hW.cast (by simp [p_cmd, p_args, pS.h, pS.e, pS.c, ← e_k, m_let]) rfl rfl rfl rfl (by simp [p_cmdC, p_cmd, p_args, pS.h, pS.e, pS.c, ← e_k, m_let]))) (Nat.le_of_ble_eq_true rfl) (Nat.le_of_ble_eq_true rfl)
            · -- letter t
              subst hk
              have hW : tW z D m (pG g (h + 1, e, c + 1)) B Bs L I (c4 C (4 * c) 116 0 0 0) H := hW
              have hl : lv_has ls 4 [(3, .int (nI 4)), (2, .int 116), (1, .int (nI (4 * c))), (0, .ref (m 0))] := hl
              refine y_tableIn (off := 240) (tgt := 318) hE dX4_command_78 (by decide) (by decide) rfl (by decide) ?_
              refine y_aload_n hE dX4_command_318 rfl (lv_at hl 3 rfl) ?_
              refine t_get (v := .ref (m 4)) hE 15 (by decide) q1991 rfl hW rfl dX4_command_319 ?_
              refine y_iload_n hE dX4_command_322 rfl (lv_at hl 2 rfl) ?_
              refine y_iconst (v := 1) hE dX4_command_323 (by decide) ?_
              refine y_iadd hE dX4_command_324 ?_
              refine y_aload_n hE dX4_command_325 rfl (lv_at hl 3 rfl) ?_
              refine y_iconst (v := 3) hE dX4_command_326 (by decide) ?_
              -- call number ['3']
              refine y_muV (rest := [.int ((nI (4 * c)) + 1), .ref (m 4)]) hE cl_X4_215 (kX4_number (h + 1, e, c + 1) t 3 ht ht2 (pB.mono hp0 (by omega)) (by omega)) dX4_command_327 hl (Nat.le_of_ble_eq_true rfl) (y_recv hE rfl hW.1) rfl rfl (Nat.le_of_ble_eq_true rfl) hW (fun _ h => h) ⟨(Nat.le_of_ble_eq_true rfl), (Nat.le_of_ble_eq_true rfl)⟩ (fun vr H hW _ _ => ?_)
              obtain ⟨hr, hW⟩ := hW
              subst hr
              have hW : tW z D m (pG g ((p_num I t 3 (h + 1, e, c + 1)).2)) B Bs L I (c4 C (4 * c) 116 0 0 0) H := hW
              refine y_st (st' := [.int ((p_num I t 3 (h + 1, e, c + 1)).1), .int ((nI (4 * c)) + 1), .ref (m 4)]) rfl ?_
              refine t_astC (j := 4 * c + 1) hE hW (nI_add (4 * c) 1) (by omega) dX4_command_330 (fun H hW => ?_)
              replace hW := hW.cast rfl rfl rfl rfl rfl (c4_1 _ _ _ _ _ _ _)
              have hW : tW z D m (pG g ((p_num I t 3 (h + 1, e, c + 1)).2)) B Bs L I (c4 C (4 * c) 116 ((p_num I t 3 (h + 1, e, c + 1)).1) 0 0) H := hW
              rw [hQ]
              exact y_vret hE dX4_command_331 ((hW.cast (by simp [p_cmd, p_args, pS.h, pS.e, pS.c, ← e_k, m_let]) rfl rfl rfl rfl (by simp [p_cmdC, p_cmd, p_args, pS.h, pS.e, pS.c, ← e_k, m_let]))) (Nat.le_of_ble_eq_true rfl) (Nat.le_of_ble_eq_true rfl)
          · -- f 48
            rw [zb_0] at c48
            refine y_aload_n hE dX4_command_51 rfl (lv_at hl 3 rfl) ?_
            refine y_aload_n hE dX4_command_52 rfl (lv_at hl 3 rfl) ?_
            refine t_get (v := .int (nI h)) hE 12 (by decide) q1988 rfl hW rfl dX4_command_53 ?_
            refine t_put (g' := upd (pG g (h, e, c + 1)) 13 (nI h)) hE hW 13 (by decide) q1989 rfl rfl rfl rfl rfl dX4_command_56 (fun H hW => ?_)
            rw [hQ]
            exact y_vret hE dX4_command_59 ((hW.cast (by rw [pG_e]; simp [p_cmd, pS.h, pS.e, pS.c, ← e_k, c48]) rfl rfl rfl rfl (by simp [p_cmdC, p_cmd, pS.h, pS.e, pS.c, ← e_k, c48]))) (Nat.le_of_ble_eq_true rfl) (Nat.le_of_ble_eq_true rfl)
        · -- f 26
          exact absurd (nI_le (Nat.le_refl _) (by omega)) c26
      · -- a round of the loop at 24
        intro j hj ih24 H ls hl hW 
        refine y_iload_n hE dX4_command_24 rfl (lv_at hl 0 rfl) ?_
        refine y_iconst (v := 4) hE dX4_command_25 (by decide) ?_
        refine y_set1 (w := nI 4) (rfl) ?_
        refine y_icmp_ge (tgt := 44) hE dX4_command_26 (by decide) (fun c26 => ?_) (fun c26 => ?_)
        · -- t 26
          exact absurd c26 (nI_ge hj (by omega))
        · -- f 26
          have n26 := Int32.not_le.mp c26
          refine y_aload_n hE dX4_command_29 rfl (lv_at hl 3 rfl) ?_
          refine t_get (v := .ref (m 4)) hE 15 (by decide) q1991 rfl hW rfl dX4_command_30 ?_
          refine y_iload_n hE dX4_command_33 rfl (lv_at hl 2 rfl) ?_
          refine y_iload_n hE dX4_command_34 rfl (lv_at hl 0 rfl) ?_
          refine y_iadd hE dX4_command_35 ?_
          refine y_iconst (v := 0) hE dX4_command_36 (by decide) ?_
          refine t_astC (j := 4 * c + j) hE hW (nI_add (4 * c) j) (by omega) dX4_command_37 (fun H hW => ?_)
          refine y_iinc (v := nI (j + 1)) (lv' := [(3, .int (nI (j + 1))), (2, .int k), (1, .int (nI (4 * c))), (0, .ref (m 0))]) hE dX4_command_38 hl (k := 0) rfl (nI_1 j) (by decide) rfl (fun ls hl => ?_)
          refine y_goto (tgt := 24) hE dX4_command_41 (by decide) ?_
          exact ih24 _ _ (lv_sub hl [0, 1, 2, 3] rfl) (hW.cast rfl rfl rfl rfl rfl (a_z_s _ _ _))
    exact K24 0 (Nat.zero_le _) _ _ (lv_sub hl [0, 1, 2, 3] rfl) (hW.cast rfl rfl rfl rfl rfl (a_z_0 _ _).symm)

set_option maxHeartbeats 1000000 in
theorem kX4_parse {z : State} {D : yD} {m : Nat → Nat} {g B : Nat → Int32} {Bs : Nat → Nat → Int32} {L I C : Nat → Int32} (t : Nat) (N : Nat) (ht : g 11 = nI t) (ht2 : t ≤ 60) (hq : ∀ i : Nat, i ≤ N → pB 60 (p_it I t i (p_0 I t C)).1 ∧ (p_it I t i (p_0 I t C)).1.2.2 ≤ 61) (hq2 : ∀ i : Nat, i < N → (p_it I t i (p_0 I t C)).1.2.2 ≤ 60) (hm1 : ∀ i : Nat, i < N → p_more I t (p_it I t i (p_0 I t C)).1 = true) (hm2 : p_more I t (p_it I t N (p_0 I t C)).1 = false) : yM yX4_parse (ws_ yX4_parse cX4_parse 1 none) (rmD 5 0 0) z D [.ref (m 0)] (tW z D m g B Bs L I C) eV (fun _ H => tW z D m (pG g (p_fin t (p_it I t N (p_0 I t C)).1)) B Bs L I ((p_it I t N (p_0 I t C)).2) H) 0 0 (tA m) := by
  refine yM_of (own := RX4) (by decide +kernel) rfl (Nat.le_of_ble_eq_true rfl) (fun H h => h.az) fun E hE hW ls hl hin => ?_
  obtain ⟨Q, hQ⟩ : ∃ Q, Q = yEm E eV (fun _ H => tW z D m (pG g (p_fin t (p_it I t N (p_0 I t C)).1)) B Bs L I ((p_it I t N (p_0 I t C)).2) H) 0 0 (tA m) := ⟨_, rfl⟩
  rw [← hQ]
  generalize (e_s E).heap = H at hW ⊢
  have hl : lv_has ls 1 [(0, .ref (m 0))] := hl
  refine y_aload_n hE dX4_parse_0 rfl (lv_at hl 0 rfl) ?_
  refine y_iconst (v := 0) hE dX4_parse_1 (by decide) ?_
  refine t_put (g' := upd g 12 0) hE hW 12 (by decide) q1988 rfl rfl rfl rfl rfl dX4_parse_2 (fun H hW => ?_)
  refine y_aload_n hE dX4_parse_5 rfl (lv_at hl 0 rfl) ?_
  refine y_iconst (v := (-1)) hE dX4_parse_6 (by decide) ?_
  refine t_put (g' := upd (upd g 12 0) 13 (-1)) hE hW 13 (by decide) q1989 rfl rfl rfl rfl rfl dX4_parse_7 (fun H hW => ?_)
  refine y_aload_n hE dX4_parse_10 rfl (lv_at hl 0 rfl) ?_
  refine y_iconst (v := 0) hE dX4_parse_11 (by decide) ?_
  refine t_put (g' := upd (upd (upd g 12 0) 13 (-1)) 16 0) hE hW 16 (by decide) q1992 rfl rfl rfl rfl rfl dX4_parse_12 (fun H hW => ?_)
  have hW : tW z D m (pG g (0, none, 0)) B Bs L I C H := hW.cast rfl rfl rfl rfl rfl rfl
  refine y_aload_n hE dX4_parse_15 rfl (lv_at hl 0 rfl) ?_
  -- call command []
  refine y_muV (rest := []) hE cl_X4_230 (kX4_command (0, none, 0) t ht ht2 ⟨by simp, fun e0 he0 => by simp at he0⟩ (by simp)) dX4_parse_16 hl (Nat.le_of_ble_eq_true rfl) (y_recv hE rfl hW.1) rfl rfl (Nat.le_of_ble_eq_true rfl) hW (fun _ h => h) ⟨(Nat.le_of_ble_eq_true rfl), (Nat.le_of_ble_eq_true rfl)⟩ (fun vr H hW _ _ => ?_)
  have hW : tW z D m (pG g (p_cmd I t (0, none, 0)).2) B Bs L I (p_cmdC I t (0, none, 0) C) H := hW
  refine y_st (st' := []) rfl ?_
  have K19 : ∀ i : Nat, i ≤ N → ∀ (H : Heap) (ls : Array Slot), lv_has ls 1 [(0, .ref (m 0))] → tW z D m (pG g (p_it I t i (p_0 I t C)).1) B Bs L I ((p_it I t i (p_0 I t C)).2) H → yY E (tA m) H 0 0 Q 19 ls [] := by
    refine y_loop ?_ ?_
    · -- the end of the loop at 19
      intro H ls hl hW 
      refine y_aload_n hE dX4_parse_19 rfl (lv_at hl 0 rfl) ?_
      refine t_get (v := .int (m_o ((p_it I t N (p_0 I t C)).1).2.1)) hE 13 (by decide) q1989 rfl hW rfl dX4_parse_20 ?_
      have hh8 := (hq N (Nat.le_refl _)).1.1
      rcases he : (p_it I t N (p_0 I t C)).1.2.1 with _ | x
      · -- error: none
        refine y_set1 (w := (-1)) rfl ?_
        refine y_if_ge (tgt := 52) hE dX4_parse_23 (by decide) (fun c23 => ?_) (fun c23 => ?_)
        · -- t 23
          exact absurd c23 (by decide)
        · -- f 23
          have n23 := Int32.not_le.mp c23
          refine y_aload_n hE dX4_parse_26 rfl (lv_at hl 0 rfl) ?_
          -- call sign []
          refine y_roV (rest := []) hE cl_X4_209 (kX4_sign (((p_it I t N (p_0 I t C)).1).1) t (pG_12 g ((p_it I t N (p_0 I t C)).1)) (by omega) (pG_11 ((p_it I t N (p_0 I t C)).1) ht) ht2) dX4_parse_27 hl (Nat.le_of_ble_eq_true rfl) (y_recv hE rfl hW.1) rfl rfl (Nat.le_of_ble_eq_true rfl) hW ⟨(Nat.le_of_ble_eq_true rfl), (Nat.le_of_ble_eq_true rfl)⟩ ?_
          refine y_bipush (v := 59) hE dX4_parse_30 (by decide) ?_
          refine y_icmp_ne (tgt := 52) hE dX4_parse_32 (by decide) (fun c32 => ?_) (fun c32 => ?_)
          · -- t 32
            refine y_aload_n hE dX4_parse_52 rfl (lv_at hl 0 rfl) ?_
            refine t_get (v := .int (m_o ((p_it I t N (p_0 I t C)).1).2.1)) hE 13 (by decide) q1989 rfl hW rfl dX4_parse_53 ?_
            refine y_set1 (w := (-1)) (by show m_o (p_it I t N (p_0 I t C)).1.2.1 = _; rw [he]; rfl) ?_
            refine y_if_ge (tgt := 78) hE dX4_parse_56 (by decide) (fun c56 => ?_) (fun c56 => ?_)
            · -- t 56
              exact absurd c56 (by decide)
            · -- f 56
              have n56 := Int32.not_le.mp c56
              refine y_aload_n hE dX4_parse_59 rfl (lv_at hl 0 rfl) ?_
              refine t_get (v := .int (nI ((p_it I t N (p_0 I t C)).1).1)) hE 12 (by decide) q1988 rfl hW rfl dX4_parse_60 ?_
              refine y_set1 (w := nI (p_it I t N (p_0 I t C)).1.1) (rfl) ?_
              have hh8 := (hq N (Nat.le_refl _)).1.1
              refine y_aload_n hE dX4_parse_63 rfl (lv_at hl 0 rfl) ?_
              refine t_get (v := .int (g 11)) hE 11 (by decide) q1987 rfl hW rfl dX4_parse_64 ?_
              refine y_set1 (w := nI t) (ht) ?_
              refine y_icmp_ge (tgt := 78) hE dX4_parse_67 (by decide) (fun c67 => ?_) (fun c67 => ?_)
              · -- t 67
                have n67 := Int32.not_lt.mpr c67
                rw [hQ]
                exact y_vret hE dX4_parse_78 ((hW.cast (by have hlt : ¬ (p_it I t N (p_0 I t C)).1.1 < t := fun hl => nI_ge hl (by omega) c67; simp [p_fin, pS.e, pS.h, he, hlt]) rfl rfl rfl rfl rfl)) (Nat.le_of_ble_eq_true rfl) (Nat.le_of_ble_eq_true rfl)
              · -- f 67
                have n67 := Int32.not_le.mp c67
                refine y_aload_n hE dX4_parse_70 rfl (lv_at hl 0 rfl) ?_
                refine y_aload_n hE dX4_parse_71 rfl (lv_at hl 0 rfl) ?_
                refine t_get (v := .int (nI ((p_it I t N (p_0 I t C)).1).1)) hE 12 (by decide) q1988 rfl hW rfl dX4_parse_72 ?_
                refine y_set1 (w := nI (p_it I t N (p_0 I t C)).1.1) (rfl) ?_
                refine t_put (g' := upd (pG g (p_it I t N (p_0 I t C)).1) 13 (nI (p_it I t N (p_0 I t C)).1.1)) hE hW 13 (by decide) q1989 rfl rfl rfl rfl rfl dX4_parse_75 (fun H hW => ?_)
                rw [hQ]
                exact y_vret hE dX4_parse_78 ((hW.cast (by have hlt : (p_it I t N (p_0 I t C)).1.1 < t := (nI_ltI (by omega) (by omega)).mp n67; rw [pG_e]; simp [p_fin, pS.e, pS.h, he, hlt]) rfl rfl rfl rfl rfl)) (Nat.le_of_ble_eq_true rfl) (Nat.le_of_ble_eq_true rfl)
          · -- f 32
            exact absurd c32 (p_more_n hm2 he)
      · -- error: some
        have hx8 := (hq N (Nat.le_refl _)).1.2 x he
        refine y_set1 (w := nI x) rfl ?_
        refine y_if_ge (tgt := 52) hE dX4_parse_23 (by decide) (fun c23 => ?_) (fun c23 => ?_)
        · -- t 23
          have n23 := Int32.not_lt.mpr c23
          refine y_aload_n hE dX4_parse_52 rfl (lv_at hl 0 rfl) ?_
          refine t_get (v := .int (m_o ((p_it I t N (p_0 I t C)).1).2.1)) hE 13 (by decide) q1989 rfl hW rfl dX4_parse_53 ?_
          refine y_set1 (w := nI x) (by show m_o (p_it I t N (p_0 I t C)).1.2.1 = _; rw [he]; rfl) ?_
          refine y_if_ge (tgt := 78) hE dX4_parse_56 (by decide) (fun c56 => ?_) (fun c56 => ?_)
          · -- t 56
            have n56 := Int32.not_lt.mpr c56
            rw [hQ]
            exact y_vret hE dX4_parse_78 ((hW.cast (by simp [p_fin, pS.e, he]) rfl rfl rfl rfl rfl)) (Nat.le_of_ble_eq_true rfl) (Nat.le_of_ble_eq_true rfl)
          · -- f 56
            exact absurd (Int32.not_lt.mp (nI_pos (by omega))) c56
        · -- f 23
          exact absurd (Int32.not_lt.mp (nI_pos (by omega))) c23
    · -- a round of the loop at 19
      intro i hi ih19 H ls hl hW 
      refine y_aload_n hE dX4_parse_19 rfl (lv_at hl 0 rfl) ?_
      refine t_get (v := .int (m_o ((p_it I t i (p_0 I t C)).1).2.1)) hE 13 (by decide) q1989 rfl hW rfl dX4_parse_20 ?_
      have he := p_more_e (hm1 i hi)
      have hh8 := (hq i (by omega)).1.1
      refine y_set1 (w := (-1)) (by show m_o (p_it I t i (p_0 I t C)).1.2.1 = _; rw [he]; rfl) ?_
      refine y_if_ge (tgt := 52) hE dX4_parse_23 (by decide) (fun c23 => ?_) (fun c23 => ?_)
      · -- t 23
        exact absurd c23 (by decide)
      · -- f 23
        have n23 := Int32.not_le.mp c23
        refine y_aload_n hE dX4_parse_26 rfl (lv_at hl 0 rfl) ?_
        -- call sign []
        refine y_roV (rest := []) hE cl_X4_209 (kX4_sign (((p_it I t i (p_0 I t C)).1).1) t (pG_12 g ((p_it I t i (p_0 I t C)).1)) (by omega) (pG_11 ((p_it I t i (p_0 I t C)).1) ht) ht2) dX4_parse_27 hl (Nat.le_of_ble_eq_true rfl) (y_recv hE rfl hW.1) rfl rfl (Nat.le_of_ble_eq_true rfl) hW ⟨(Nat.le_of_ble_eq_true rfl), (Nat.le_of_ble_eq_true rfl)⟩ ?_
        refine y_bipush (v := 59) hE dX4_parse_30 (by decide) ?_
        refine y_icmp_ne (tgt := 52) hE dX4_parse_32 (by decide) (fun c32 => ?_) (fun c32 => ?_)
        · -- t 32
          exact absurd (p_more_s (hm1 i hi)) c32
        · -- f 32
          refine y_aload_n hE dX4_parse_35 rfl (lv_at hl 0 rfl) ?_
          refine y_dup hE dX4_parse_36 rfl ?_
          refine t_get (v := .int (nI ((p_it I t i (p_0 I t C)).1).1)) hE 12 (by decide) q1988 rfl hW rfl dX4_parse_37 ?_
          refine y_iconst (v := 1) hE dX4_parse_40 (by decide) ?_
          refine y_iadd hE dX4_parse_41 ?_
          refine y_set1 (w := nI ((p_it I t i (p_0 I t C)).1.1 + 1)) (nI_1 _) ?_
          refine t_put (g' := upd (pG g (p_it I t i (p_0 I t C)).1) 12 (nI ((p_it I t i (p_0 I t C)).1.1 + 1))) hE hW 12 (by decide) q1988 rfl rfl rfl rfl rfl dX4_parse_42 (fun H hW => ?_)
          have hW : tW z D m (pG g ((p_it I t i (p_0 I t C)).1.1 + 1, (p_it I t i (p_0 I t C)).1.2.1, (p_it I t i (p_0 I t C)).1.2.2)) B Bs L I ((p_it I t i (p_0 I t C)).2) H := hW.cast (pG_h _ _ _) rfl rfl rfl rfl rfl
          refine y_aload_n hE dX4_parse_45 rfl (lv_at hl 0 rfl) ?_
          -- call command []
          refine y_muV (rest := []) hE cl_X4_230 (kX4_command ((p_it I t i (p_0 I t C)).1.1 + 1, (p_it I t i (p_0 I t C)).1.2.1, (p_it I t i (p_0 I t C)).1.2.2) t ht ht2 ⟨by dsimp only; omega, fun e0 he0 => by dsimp only at he0; rw [he] at he0; simp at he0⟩ (hq2 i hi)) dX4_parse_46 hl (Nat.le_of_ble_eq_true rfl) (y_recv hE rfl hW.1) rfl rfl (Nat.le_of_ble_eq_true rfl) hW (fun _ h => h) ⟨(Nat.le_of_ble_eq_true rfl), (Nat.le_of_ble_eq_true rfl)⟩ (fun vr H hW _ _ => ?_)
          have hW : tW z D m (pG g (p_cmd I t ((p_it I t i (p_0 I t C)).1.1 + 1, (p_it I t i (p_0 I t C)).1.2.1, (p_it I t i (p_0 I t C)).1.2.2)).2) B Bs L I (p_cmdC I t ((p_it I t i (p_0 I t C)).1.1 + 1, (p_it I t i (p_0 I t C)).1.2.1, (p_it I t i (p_0 I t C)).1.2.2) ((p_it I t i (p_0 I t C)).2)) H := hW
          refine y_st (st' := []) rfl ?_
          refine y_goto (tgt := 19) hE dX4_parse_49 (by decide) ?_
          exact ih19 _ _ (lv_sub hl [0] rfl) (hW.cast rfl rfl rfl rfl rfl rfl)
  exact K19 0 (Nat.zero_le _) _ _ (lv_sub hl [0] rfl) (hW.cast rfl rfl rfl rfl rfl rfl)

set_option maxHeartbeats 1000000 in
theorem kX4_does {z : State} {D : yD} {m : Nat → Nat} {g B : Nat → Int32} {Bs : Nat → Nat → Int32} {L I C : Nat → Int32} (n : Nat) (q : Nat) (t : Nat) (N : Nat) (o : Nat) (hn : B 0 = nI n) (hN : n ≤ 12) (hG : B 3 = nI q) (hq : q < 1000) (hD1 : ∀ i : Nat, i < N → 0 < m_exc (m_cuts B n i) n) (hD2 : ¬ 0 < m_exc (m_cuts B n N) n) (hT : B 4 = nI t) (ht : t + 50 < 2 ^ 20) (hk : m_let (C o) = true) (ho : o + 3 < 244) : yM yX4_does (ws_ yX4_does cX4_does 5 (some .int)) (rmD 10 0 0) z D [.ref (m 0), .int (nI o)] (tW z D m g B Bs L I C) eI (fun vr H => vr = tBy (o_does B n t N (C o) (C (o + 1)) (C (o + 2)) (C (o + 3))) ∧ tW z D m (tGo g (o_does B n t N (C o) (C (o + 1)) (C (o + 2)) (C (o + 3)))) (tBo B (o_does B n t N (C o) (C (o + 1)) (C (o + 2)) (C (o + 3)))) Bs L I C H) 0 0 (tA m) := by
  refine yM_of (own := RX4) (by decide +kernel) rfl (Nat.le_of_ble_eq_true rfl) (fun H h => h.az) fun E hE hW ls hl hin => ?_
  obtain ⟨Q, hQ⟩ : ∃ Q, Q = yEm E eI (fun vr H => vr = tBy (o_does B n t N (C o) (C (o + 1)) (C (o + 2)) (C (o + 3))) ∧ tW z D m (tGo g (o_does B n t N (C o) (C (o + 1)) (C (o + 2)) (C (o + 3)))) (tBo B (o_does B n t N (C o) (C (o + 1)) (C (o + 2)) (C (o + 3)))) Bs L I C H) 0 0 (tA m) := ⟨_, rfl⟩
  rw [← hQ]
  generalize (e_s E).heap = H at hW ⊢
  have hl : lv_has ls 5 [(0, .ref (m 0)), (1, .int (nI o))] := hl
  refine y_aload_n hE dX4_does_0 rfl (lv_at hl 0 rfl) ?_
  refine t_get (v := .ref (m 4)) hE 15 (by decide) q1991 rfl hW rfl dX4_does_1 ?_
  refine y_iload_n hE dX4_does_4 rfl (lv_at hl 1 rfl) ?_
  refine y_iconst (v := 1) hE dX4_does_5 (by decide) ?_
  refine y_iadd hE dX4_does_6 ?_
  refine t_aldC (j := o + 1) hE hW (nI_add o 1) (by omega) dX4_does_7 ?_
  refine y_istore_n (lv' := [(2, .int (C (o + 1))), (0, .ref (m 0)), (1, .int (nI o))]) hE dX4_does_8 rfl hl (by decide) rfl (fun ls hl => ?_)
  refine y_aload_n hE dX4_does_9 rfl (lv_at hl 1 rfl) ?_
  refine t_get (v := .ref (m 4)) hE 15 (by decide) q1991 rfl hW rfl dX4_does_10 ?_
  refine y_iload_n hE dX4_does_13 rfl (lv_at hl 2 rfl) ?_
  refine y_iconst (v := 2) hE dX4_does_14 (by decide) ?_
  refine y_iadd hE dX4_does_15 ?_
  refine t_aldC (j := o + 2) hE hW (nI_add o 2) (by omega) dX4_does_16 ?_
  refine y_istore_n (lv' := [(3, .int (C (o + 2))), (2, .int (C (o + 1))), (0, .ref (m 0)), (1, .int (nI o))]) hE dX4_does_17 rfl hl (by decide) rfl (fun ls hl => ?_)
  refine y_aload_n hE dX4_does_18 rfl (lv_at hl 2 rfl) ?_
  refine t_get (v := .ref (m 4)) hE 15 (by decide) q1991 rfl hW rfl dX4_does_19 ?_
  refine y_iload_n hE dX4_does_22 rfl (lv_at hl 3 rfl) ?_
  refine y_iconst (v := 3) hE dX4_does_23 (by decide) ?_
  refine y_iadd hE dX4_does_24 ?_
  refine t_aldC (j := o + 3) hE hW (nI_add o 3) (by omega) dX4_does_25 ?_
  refine y_istore (lv' := [(4, .int (C (o + 3))), (3, .int (C (o + 2))), (2, .int (C (o + 1))), (0, .ref (m 0)), (1, .int (nI o))]) hE dX4_does_26 hl (by decide) rfl (fun ls hl => ?_)
  refine y_aload_n hE dX4_does_28 rfl (lv_at hl 3 rfl) ?_
  refine t_get (v := .ref (m 4)) hE 15 (by decide) q1991 rfl hW rfl dX4_does_29 ?_
  refine y_iload_n hE dX4_does_32 rfl (lv_at hl 4 rfl) ?_
  refine t_aldC (j := o) hE hW (rfl) (by omega) dX4_does_33 ?_
  rcases m_let_or hk with hl0 | hl0 | hl0 | hl0 | hl0 | hl0 | hl0 | hl0 | hl0 | hl0 | hl0 | hl0 | hl0
  · -- letter a
    refine y_set1 (w := 97) hl0 ?_
    refine y_tableIn (off := 106) (tgt := 140) hE dX4_does_34 (by decide) (by decide) rfl (by decide) ?_
    refine y_aload_n hE dX4_does_140 rfl (lv_at hl 3 rfl) ?_
    refine y_iload_n hE dX4_does_141 rfl (lv_at hl 2 rfl) ?_
    refine y_iload_n hE dX4_does_142 rfl (lv_at hl 1 rfl) ?_
    refine y_iload hE dX4_does_143 (lv_at hl 0 rfl) ?_
    -- call adds ['C (o + 1)', 'C (o + 2)', 'C (o + 3)']
    refine y_muV (rest := []) hE cl_X4_95 (kX4_adds n (C (o + 1)) (C (o + 2)) (C (o + 3)) hn hN) dX4_does_145 hl (Nat.le_of_ble_eq_true rfl) (y_recv hE rfl hW.1) rfl rfl (Nat.le_of_ble_eq_true rfl) hW (fun _ h => h) ⟨(Nat.le_of_ble_eq_true rfl), (Nat.le_of_ble_eq_true rfl)⟩ (fun vr H hW _ _ => ?_)
    obtain ⟨hr, hW⟩ := hW
    subst hr
    have hW : tW z D m (tGo g (o_adds B n (C (o + 1)) (C (o + 2)) (C (o + 3)))) (tBo B (o_adds B n (C (o + 1)) (C (o + 2)) (C (o + 3)))) Bs L I C H := hW
    refine y_st (st' := [.int (tBy (o_adds B n (C (o + 1)) (C (o + 2)) (C (o + 3))))]) rfl ?_
    rw [hQ]
    exact y_iret hE dX4_does_148 ⟨(by simp [o_does, hl0]), (hW.cast (by simp [o_does, hl0]) (by simp [o_does, hl0]) rfl rfl rfl rfl)⟩ (Nat.le_of_ble_eq_true rfl) (Nat.le_of_ble_eq_true rfl)
  · -- letter f
    refine y_set1 (w := 102) hl0 ?_
    refine y_tableIn (off := 115) (tgt := 149) hE dX4_does_34 (by decide) (by decide) rfl (by decide) ?_
    refine y_aload_n hE dX4_does_149 rfl (lv_at hl 3 rfl) ?_
    refine y_iload_n hE dX4_does_150 rfl (lv_at hl 2 rfl) ?_
    -- call fails ['C (o + 1)']
    refine y_muV (rest := []) hE cl_X4_110 (kX4_fails n (C (o + 1)) hn hN) dX4_does_151 hl (Nat.le_of_ble_eq_true rfl) (y_recv hE rfl hW.1) rfl rfl (Nat.le_of_ble_eq_true rfl) hW (fun _ h => h) ⟨(Nat.le_of_ble_eq_true rfl), (Nat.le_of_ble_eq_true rfl)⟩ (fun vr H hW _ _ => ?_)
    obtain ⟨hr, hW⟩ := hW
    subst hr
    have hW : tW z D m (tGo g (o_fails B n (C (o + 1)))) (tBo B (o_fails B n (C (o + 1)))) Bs L I C H := hW
    refine y_st (st' := [.int (tBy (o_fails B n (C (o + 1))))]) rfl ?_
    rw [hQ]
    exact y_iret hE dX4_does_154 ⟨(by simp [o_does, hl0]), (hW.cast (by simp [o_does, hl0]) (by simp [o_does, hl0]) rfl rfl rfl rfl)⟩ (Nat.le_of_ble_eq_true rfl) (Nat.le_of_ble_eq_true rfl)
  · -- letter s
    refine y_set1 (w := 115) hl0 ?_
    refine y_tableIn (off := 121) (tgt := 155) hE dX4_does_34 (by decide) (by decide) rfl (by decide) ?_
    refine y_aload_n hE dX4_does_155 rfl (lv_at hl 3 rfl) ?_
    refine y_iload_n hE dX4_does_156 rfl (lv_at hl 2 rfl) ?_
    refine y_iload_n hE dX4_does_157 rfl (lv_at hl 1 rfl) ?_
    -- call sends ['C (o + 1)', 'C (o + 2)']
    refine y_muV (rest := []) hE cl_X4_117 (kX4_sends n (C (o + 1)) (C (o + 2)) hn hN) dX4_does_158 hl (Nat.le_of_ble_eq_true rfl) (y_recv hE rfl hW.1) rfl rfl (Nat.le_of_ble_eq_true rfl) hW (fun _ h => h) ⟨(Nat.le_of_ble_eq_true rfl), (Nat.le_of_ble_eq_true rfl)⟩ (fun vr H hW _ _ => ?_)
    obtain ⟨hr, hW⟩ := hW
    subst hr
    have hW : tW z D m (tGo g (o_sends B n (C (o + 1)) (C (o + 2)))) (tBo B (o_sends B n (C (o + 1)) (C (o + 2)))) Bs L I C H := hW
    refine y_st (st' := [.int (tBy (o_sends B n (C (o + 1)) (C (o + 2))))]) rfl ?_
    rw [hQ]
    exact y_iret hE dX4_does_161 ⟨(by simp [o_does, hl0]), (hW.cast (by simp [o_does, hl0]) (by simp [o_does, hl0]) rfl rfl rfl rfl)⟩ (Nat.le_of_ble_eq_true rfl) (Nat.le_of_ble_eq_true rfl)
  · -- letter r
    refine y_set1 (w := 114) hl0 ?_
    refine y_tableIn (off := 128) (tgt := 162) hE dX4_does_34 (by decide) (by decide) rfl (by decide) ?_
    refine y_aload_n hE dX4_does_162 rfl (lv_at hl 3 rfl) ?_
    refine y_iload_n hE dX4_does_163 rfl (lv_at hl 2 rfl) ?_
    -- call recalls ['C (o + 1)']
    refine y_muV (rest := []) hE cl_X4_120 (kX4_recalls n (C (o + 1)) hn hN) dX4_does_164 hl (Nat.le_of_ble_eq_true rfl) (y_recv hE rfl hW.1) rfl rfl (Nat.le_of_ble_eq_true rfl) hW (fun _ h => h) ⟨(Nat.le_of_ble_eq_true rfl), (Nat.le_of_ble_eq_true rfl)⟩ (fun vr H hW _ _ => ?_)
    obtain ⟨hr, hW⟩ := hW
    subst hr
    have hW : tW z D m (tGo g (o_recalls B n (C (o + 1)))) (tBo B (o_recalls B n (C (o + 1)))) Bs L I C H := hW
    refine y_st (st' := [.int (tBy (o_recalls B n (C (o + 1))))]) rfl ?_
    rw [hQ]
    exact y_iret hE dX4_does_167 ⟨(by simp [o_does, hl0]), (hW.cast (by simp [o_does, hl0]) (by simp [o_does, hl0]) rfl rfl rfl rfl)⟩ (Nat.le_of_ble_eq_true rfl) (Nat.le_of_ble_eq_true rfl)
  · -- letter c
    refine y_set1 (w := 99) hl0 ?_
    refine y_tableIn (off := 134) (tgt := 168) hE dX4_does_34 (by decide) (by decide) rfl (by decide) ?_
    refine y_aload_n hE dX4_does_168 rfl (lv_at hl 3 rfl) ?_
    refine y_iload_n hE dX4_does_169 rfl (lv_at hl 2 rfl) ?_
    refine y_iload_n hE dX4_does_170 rfl (lv_at hl 1 rfl) ?_
    -- call curtails ['C (o + 1)', 'C (o + 2)']
    refine y_muV (rest := []) hE cl_X4_123 (kX4_curtails n (C (o + 1)) (C (o + 2)) hn hN) dX4_does_171 hl (Nat.le_of_ble_eq_true rfl) (y_recv hE rfl hW.1) rfl rfl (Nat.le_of_ble_eq_true rfl) hW (fun _ h => h) ⟨(Nat.le_of_ble_eq_true rfl), (Nat.le_of_ble_eq_true rfl)⟩ (fun vr H hW _ _ => ?_)
    obtain ⟨hr, hW⟩ := hW
    subst hr
    have hW : tW z D m (tGo g (o_curtails B n (C (o + 1)) (C (o + 2)))) (tBo B (o_curtails B n (C (o + 1)) (C (o + 2)))) Bs L I C H := hW
    refine y_st (st' := [.int (tBy (o_curtails B n (C (o + 1)) (C (o + 2))))]) rfl ?_
    rw [hQ]
    exact y_iret hE dX4_does_174 ⟨(by simp [o_does, hl0]), (hW.cast (by simp [o_does, hl0]) (by simp [o_does, hl0]) rfl rfl rfl rfl)⟩ (Nat.le_of_ble_eq_true rfl) (Nat.le_of_ble_eq_true rfl)
  · -- letter u
    refine y_set1 (w := 117) hl0 ?_
    refine y_tableIn (off := 141) (tgt := 175) hE dX4_does_34 (by decide) (by decide) rfl (by decide) ?_
    refine y_aload_n hE dX4_does_175 rfl (lv_at hl 3 rfl) ?_
    refine y_iload_n hE dX4_does_176 rfl (lv_at hl 2 rfl) ?_
    -- call releases ['C (o + 1)']
    refine y_muV (rest := []) hE cl_X4_126 (kX4_releases n (C (o + 1)) hn hN) dX4_does_177 hl (Nat.le_of_ble_eq_true rfl) (y_recv hE rfl hW.1) rfl rfl (Nat.le_of_ble_eq_true rfl) hW (fun _ h => h) ⟨(Nat.le_of_ble_eq_true rfl), (Nat.le_of_ble_eq_true rfl)⟩ (fun vr H hW _ _ => ?_)
    obtain ⟨hr, hW⟩ := hW
    subst hr
    have hW : tW z D m (tGo g (o_releases B n (C (o + 1)))) (tBo B (o_releases B n (C (o + 1)))) Bs L I C H := hW
    refine y_st (st' := [.int (tBy (o_releases B n (C (o + 1))))]) rfl ?_
    rw [hQ]
    exact y_iret hE dX4_does_180 ⟨(by simp [o_does, hl0]), (hW.cast (by simp [o_does, hl0]) (by simp [o_does, hl0]) rfl rfl rfl rfl)⟩ (Nat.le_of_ble_eq_true rfl) (Nat.le_of_ble_eq_true rfl)
  · -- letter w
    refine y_set1 (w := 119) hl0 ?_
    refine y_tableIn (off := 147) (tgt := 181) hE dX4_does_34 (by decide) (by decide) rfl (by decide) ?_
    refine y_aload_n hE dX4_does_181 rfl (lv_at hl 3 rfl) ?_
    refine y_iload_n hE dX4_does_182 rfl (lv_at hl 2 rfl) ?_
    refine y_iload_n hE dX4_does_183 rfl (lv_at hl 1 rfl) ?_
    -- call blows ['C (o + 1)', 'C (o + 2)']
    refine y_muV (rest := []) hE cl_X4_135 (kX4_blows n (C (o + 1)) (C (o + 2)) hn hN) dX4_does_184 hl (Nat.le_of_ble_eq_true rfl) (y_recv hE rfl hW.1) rfl rfl (Nat.le_of_ble_eq_true rfl) hW (fun _ h => h) ⟨(Nat.le_of_ble_eq_true rfl), (Nat.le_of_ble_eq_true rfl)⟩ (fun vr H hW _ _ => ?_)
    obtain ⟨hr, hW⟩ := hW
    subst hr
    have hW : tW z D m (tGo g (o_blows B n (C (o + 1)) (C (o + 2)))) (tBo B (o_blows B n (C (o + 1)) (C (o + 2)))) Bs L I C H := hW
    refine y_st (st' := [.int (tBy (o_blows B n (C (o + 1)) (C (o + 2))))]) rfl ?_
    rw [hQ]
    exact y_iret hE dX4_does_187 ⟨(by simp [o_does, hl0]), (hW.cast (by simp [o_does, hl0]) (by simp [o_does, hl0]) rfl rfl rfl rfl)⟩ (Nat.le_of_ble_eq_true rfl) (Nat.le_of_ble_eq_true rfl)
  · -- letter g
    refine y_set1 (w := 103) hl0 ?_
    refine y_tableIn (off := 154) (tgt := 188) hE dX4_does_34 (by decide) (by decide) rfl (by decide) ?_
    refine y_aload_n hE dX4_does_188 rfl (lv_at hl 3 rfl) ?_
    refine y_iload_n hE dX4_does_189 rfl (lv_at hl 2 rfl) ?_
    -- call limits ['C (o + 1)']
    refine y_muV (rest := []) hE cl_X4_138 (kX4_limits (C (o + 1))) dX4_does_190 hl (Nat.le_of_ble_eq_true rfl) (y_recv hE rfl hW.1) rfl rfl (Nat.le_of_ble_eq_true rfl) hW (fun _ h => h) ⟨(Nat.le_of_ble_eq_true rfl), (Nat.le_of_ble_eq_true rfl)⟩ (fun vr H hW _ _ => ?_)
    obtain ⟨hr, hW⟩ := hW
    subst hr
    have hW : tW z D m (tGo g (o_limits B (C (o + 1)))) (tBo B (o_limits B (C (o + 1)))) Bs L I C H := hW
    refine y_st (st' := [.int (tBy (o_limits B (C (o + 1))))]) rfl ?_
    rw [hQ]
    exact y_iret hE dX4_does_193 ⟨(by simp [o_does, hl0]), (hW.cast (by simp [o_does, hl0]) (by simp [o_does, hl0]) rfl rfl rfl rfl)⟩ (Nat.le_of_ble_eq_true rfl) (Nat.le_of_ble_eq_true rfl)
  · -- letter d
    refine y_set1 (w := 100) hl0 ?_
    refine y_tableIn (off := 160) (tgt := 194) hE dX4_does_34 (by decide) (by decide) rfl (by decide) ?_
    refine y_aload_n hE dX4_does_194 rfl (lv_at hl 3 rfl) ?_
    -- call dispatches []
    refine y_muV (rest := []) hE cl_X4_141 (kX4_dispatches n q N hn hN hG hq hD1 hD2) dX4_does_195 hl (Nat.le_of_ble_eq_true rfl) (y_recv hE rfl hW.1) rfl rfl (Nat.le_of_ble_eq_true rfl) hW (fun _ h => h) ⟨(Nat.le_of_ble_eq_true rfl), (Nat.le_of_ble_eq_true rfl)⟩ (fun vr H hW _ _ => ?_)
    obtain ⟨hr, hW⟩ := hW
    subst hr
    have hW : tW z D m (tGo g (o_disp B n N)) (tBo B (o_disp B n N)) Bs L I C H := hW
    refine y_st (st' := [.int (tBy (o_disp B n N))]) rfl ?_
    rw [hQ]
    exact y_iret hE dX4_does_198 ⟨(by simp [o_does, hl0]), (hW.cast (by simp [o_does, hl0]) (by simp [o_does, hl0]) rfl rfl rfl rfl)⟩ (Nat.le_of_ble_eq_true rfl) (Nat.le_of_ble_eq_true rfl)
  · -- letter v
    refine y_set1 (w := 118) hl0 ?_
    refine y_tableIn (off := 165) (tgt := 199) hE dX4_does_34 (by decide) (by decide) rfl (by decide) ?_
    refine y_aload_n hE dX4_does_199 rfl (lv_at hl 3 rfl) ?_
    -- call releasesAll []
    refine y_muV (rest := []) hE cl_X4_144 (kX4_releasesAll n hn hN) dX4_does_200 hl (Nat.le_of_ble_eq_true rfl) (y_recv hE rfl hW.1) rfl rfl (Nat.le_of_ble_eq_true rfl) hW (fun _ h => h) ⟨(Nat.le_of_ble_eq_true rfl), (Nat.le_of_ble_eq_true rfl)⟩ (fun vr H hW _ _ => ?_)
    obtain ⟨hr, hW⟩ := hW
    subst hr
    have hW : tW z D m (tGo g (o_rels B n)) (tBo B (o_rels B n)) Bs L I C H := hW
    refine y_st (st' := [.int (tBy (o_rels B n))]) rfl ?_
    rw [hQ]
    exact y_iret hE dX4_does_203 ⟨(by simp [o_does, hl0]), (hW.cast (by simp [o_does, hl0]) (by simp [o_does, hl0]) rfl rfl rfl rfl)⟩ (Nat.le_of_ble_eq_true rfl) (Nat.le_of_ble_eq_true rfl)
  · -- letter b
    refine y_set1 (w := 98) hl0 ?_
    refine y_tableIn (off := 170) (tgt := 204) hE dX4_does_34 (by decide) (by decide) rfl (by decide) ?_
    refine y_aload_n hE dX4_does_204 rfl (lv_at hl 3 rfl) ?_
    refine y_iload_n hE dX4_does_205 rfl (lv_at hl 2 rfl) ?_
    refine y_iload_n hE dX4_does_206 rfl (lv_at hl 1 rfl) ?_
    refine y_iload hE dX4_does_207 (lv_at hl 0 rfl) ?_
    -- call places ['C (o + 1)', 'C (o + 2)', 'C (o + 3)']
    refine y_muV (rest := []) hE cl_X4_156 (kX4_places (C (o + 1)) (C (o + 2)) (C (o + 3))) dX4_does_209 hl (Nat.le_of_ble_eq_true rfl) (y_recv hE rfl hW.1) rfl rfl (Nat.le_of_ble_eq_true rfl) hW (fun _ h => h) ⟨(Nat.le_of_ble_eq_true rfl), (Nat.le_of_ble_eq_true rfl)⟩ (fun vr H hW _ _ => ?_)
    obtain ⟨hr, hW⟩ := hW
    subst hr
    have hW : tW z D m (tGo g (o_places B (C (o + 1)) (C (o + 2)) (C (o + 3)))) (tBo B (o_places B (C (o + 1)) (C (o + 2)) (C (o + 3)))) Bs L I C H := hW
    refine y_st (st' := [.int (tBy (o_places B (C (o + 1)) (C (o + 2)) (C (o + 3))))]) rfl ?_
    rw [hQ]
    exact y_iret hE dX4_does_212 ⟨(by simp [o_does, hl0]), (hW.cast (by simp [o_does, hl0]) (by simp [o_does, hl0]) rfl rfl rfl rfl)⟩ (Nat.le_of_ble_eq_true rfl) (Nat.le_of_ble_eq_true rfl)
  · -- letter q
    refine y_set1 (w := 113) hl0 ?_
    refine y_tableIn (off := 179) (tgt := 213) hE dX4_does_34 (by decide) (by decide) rfl (by decide) ?_
    refine y_aload_n hE dX4_does_213 rfl (lv_at hl 3 rfl) ?_
    refine y_iload_n hE dX4_does_214 rfl (lv_at hl 2 rfl) ?_
    -- call withdraws ['C (o + 1)']
    refine y_muV (rest := []) hE cl_X4_162 (kX4_withdraws (C (o + 1))) dX4_does_215 hl (Nat.le_of_ble_eq_true rfl) (y_recv hE rfl hW.1) rfl rfl (Nat.le_of_ble_eq_true rfl) hW (fun _ h => h) ⟨(Nat.le_of_ble_eq_true rfl), (Nat.le_of_ble_eq_true rfl)⟩ (fun vr H hW _ _ => ?_)
    obtain ⟨hr, hW⟩ := hW
    subst hr
    have hW : tW z D m (tGo g (o_withdraws B (C (o + 1)))) (tBo B (o_withdraws B (C (o + 1)))) Bs L I C H := hW
    refine y_st (st' := [.int (tBy (o_withdraws B (C (o + 1))))]) rfl ?_
    rw [hQ]
    exact y_iret hE dX4_does_218 ⟨(by simp [o_does, hl0]), (hW.cast (by simp [o_does, hl0]) (by simp [o_does, hl0]) rfl rfl rfl rfl)⟩ (Nat.le_of_ble_eq_true rfl) (Nat.le_of_ble_eq_true rfl)
  · -- letter t
    refine y_set1 (w := 116) hl0 ?_
    refine y_tableIn (off := 185) (tgt := 219) hE dX4_does_34 (by decide) (by decide) rfl (by decide) ?_
    refine y_aload_n hE dX4_does_219 rfl (lv_at hl 3 rfl) ?_
    refine y_iload_n hE dX4_does_220 rfl (lv_at hl 2 rfl) ?_
    -- call passesHours ['C (o + 1)']
    refine y_muV (rest := []) hE cl_X4_168 (kX4_passesHours n t (C (o + 1)) hn hN hT (by omega)) dX4_does_221 hl (Nat.le_of_ble_eq_true rfl) (y_recv hE rfl hW.1) rfl rfl (Nat.le_of_ble_eq_true rfl) hW (fun _ h => h) ⟨(Nat.le_of_ble_eq_true rfl), (Nat.le_of_ble_eq_true rfl)⟩ (fun vr H hW _ _ => ?_)
    obtain ⟨hr, hW⟩ := hW
    subst hr
    have hW : tW z D m (tGo g (o_hours B n t (C (o + 1)))) (tBo B (o_hours B n t (C (o + 1)))) Bs L I C H := hW
    refine y_st (st' := [.int (tBy (o_hours B n t (C (o + 1))))]) rfl ?_
    rw [hQ]
    exact y_iret hE dX4_does_224 ⟨(by simp [o_does, hl0]), (hW.cast (by simp [o_does, hl0]) (by simp [o_does, hl0]) rfl rfl rfl rfl)⟩ (Nat.le_of_ble_eq_true rfl) (Nat.le_of_ble_eq_true rfl)

set_option maxHeartbeats 1000000 in
theorem kX4_execute_bad {z : State} {D : yD} {m : Nat → Nat} {g B : Nat → Int32} {Bs : Nat → Nat → Int32} {L I C : Nat → Int32} (t : Nat) (N : Nat) (e : Nat) (ht : g 11 = nI t) (ht2 : t ≤ 60) (hq : ∀ i : Nat, i ≤ N → pB 60 (p_it I t i (p_0 I t C)).1 ∧ (p_it I t i (p_0 I t C)).1.2.2 ≤ 61) (hq2 : ∀ i : Nat, i < N → (p_it I t i (p_0 I t C)).1.2.2 ≤ 60) (hm1 : ∀ i : Nat, i < N → p_more I t (p_it I t i (p_0 I t C)).1 = true) (hm2 : p_more I t (p_it I t N (p_0 I t C)).1 = false) (he : (p_fin t (p_it I t N (p_0 I t C)).1).2.1 = some e) (he8 : e ≤ 60) : yM yX4_execute (ws_ yX4_execute cX4_execute 3 (some .int)) (rmD 6 0 0) z D [.ref (m 0)] (tW z D m g B Bs L I C) eI (fun vr H => vr = 0 ∧ tW z D m (upd (upd (upd (pG g (p_fin t (p_it I t N (p_0 I t C)).1)) 11 0) 14 (nI e)) 0 1) B Bs L I ((p_it I t N (p_0 I t C)).2) H) 0 0 (tA m) := by
  refine yM_of (own := RX4) (by decide +kernel) rfl (Nat.le_of_ble_eq_true rfl) (fun H h => h.az) fun E hE hW ls hl hin => ?_
  obtain ⟨Q, hQ⟩ : ∃ Q, Q = yEm E eI (fun vr H => vr = 0 ∧ tW z D m (upd (upd (upd (pG g (p_fin t (p_it I t N (p_0 I t C)).1)) 11 0) 14 (nI e)) 0 1) B Bs L I ((p_it I t N (p_0 I t C)).2) H) 0 0 (tA m) := ⟨_, rfl⟩
  rw [← hQ]
  generalize (e_s E).heap = H at hW ⊢
  have hl : lv_has ls 3 [(0, .ref (m 0))] := hl
  refine y_aload_n hE dX4_execute_0 rfl (lv_at hl 0 rfl) ?_
  -- call parse []
  refine y_muV (rest := []) hE cl_X4_233 (kX4_parse t N ht ht2 hq hq2 hm1 hm2) dX4_execute_1 hl (Nat.le_of_ble_eq_true rfl) (y_recv hE rfl hW.1) rfl rfl (Nat.le_of_ble_eq_true rfl) hW (fun _ h => h) ⟨(Nat.le_of_ble_eq_true rfl), (Nat.le_of_ble_eq_true rfl)⟩ (fun vr H hW _ _ => ?_)
  have hW : tW z D m (pG g (p_fin t (p_it I t N (p_0 I t C)).1)) B Bs L I ((p_it I t N (p_0 I t C)).2) H := hW
  refine y_st (st' := []) rfl ?_
  refine y_aload_n hE dX4_execute_4 rfl (lv_at hl 0 rfl) ?_
  refine y_iconst (v := 0) hE dX4_execute_5 (by decide) ?_
  refine t_put (g' := upd (pG g (p_fin t (p_it I t N (p_0 I t C)).1)) 11 0) hE hW 11 (by decide) q1987 rfl rfl rfl rfl rfl dX4_execute_6 (fun H hW => ?_)
  refine y_aload_n hE dX4_execute_9 rfl (lv_at hl 0 rfl) ?_
  refine t_get (v := .int (m_o (p_fin t (p_it I t N (p_0 I t C)).1).2.1)) hE 13 (by decide) q1989 rfl hW rfl dX4_execute_10 ?_
  refine y_set1 (w := nI e) (by show m_o (p_fin t (p_it I t N (p_0 I t C)).1).2.1 = _; rw [he]; rfl) ?_
  refine y_if_lt (tgt := 31) hE dX4_execute_13 (by decide) (fun c13 => ?_) (fun c13 => ?_)
  · -- t 13
    exact absurd c13 (nI_pos (by omega))
  · -- f 13
    have n13 := Int32.not_lt.mp c13
    refine y_aload_n hE dX4_execute_16 rfl (lv_at hl 0 rfl) ?_
    refine y_aload_n hE dX4_execute_17 rfl (lv_at hl 0 rfl) ?_
    refine t_get (v := .int (m_o (p_fin t (p_it I t N (p_0 I t C)).1).2.1)) hE 13 (by decide) q1989 rfl hW rfl dX4_execute_18 ?_
    refine y_set1 (w := nI e) (by show m_o (p_fin t (p_it I t N (p_0 I t C)).1).2.1 = _; rw [he]; rfl) ?_
    refine t_put (g' := upd (upd (pG g (p_fin t (p_it I t N (p_0 I t C)).1)) 11 0) 14 (nI e)) hE hW 14 (by decide) q1990 rfl rfl rfl rfl rfl dX4_execute_21 (fun H hW => ?_)
    refine y_aload_n hE dX4_execute_24 rfl (lv_at hl 0 rfl) ?_
    refine y_iconst (v := 1) hE dX4_execute_25 (by decide) ?_
    refine t_put (g' := upd (upd (upd (pG g (p_fin t (p_it I t N (p_0 I t C)).1)) 11 0) 14 (nI e)) 0 1) hE hW 0 (by decide) q1976 rfl rfl rfl rfl rfl dX4_execute_26 (fun H hW => ?_)
    refine y_iconst (v := 0) hE dX4_execute_29 (by decide) ?_
    rw [hQ]
    exact y_iret hE dX4_execute_30 ⟨rfl, hW.cast rfl rfl rfl rfl rfl rfl⟩ (Nat.le_of_ble_eq_true rfl) (Nat.le_of_ble_eq_true rfl)

set_option maxHeartbeats 1000000 in
theorem kX4_execute {z : State} {D : yD} {m : Nat → Nat} {g B : Nat → Int32} {Bs : Nat → Nat → Int32} {L I C : Nat → Int32} (t : Nat) (N : Nat) (c : Nat) (K : Nat) (ht : g 11 = nI t) (ht2 : t ≤ 60) (hq : ∀ i : Nat, i ≤ N → pB 60 (p_it I t i (p_0 I t C)).1 ∧ (p_it I t i (p_0 I t C)).1.2.2 ≤ 61) (hq2 : ∀ i : Nat, i < N → (p_it I t i (p_0 I t C)).1.2.2 ≤ 60) (hm1 : ∀ i : Nat, i < N → p_more I t (p_it I t i (p_0 I t C)).1 = true) (hm2 : p_more I t (p_it I t N (p_0 I t C)).1 = false) (hc : g 2 = nI c) (hC : c ≤ 8) (he : (p_fin t (p_it I t N (p_0 I t C)).1).2.1 = none) (hF : (p_fin t (p_it I t N (p_0 I t C)).1).2.2 ≤ 61) (hK : K ≤ (p_fin t (p_it I t N (p_0 I t C)).1).2.2) (hx1 : ∀ i : Nat, i < K → (x_it (p_it I t N (p_0 I t C)).2 i (0, (upd (pG g (p_fin t (p_it I t N (p_0 I t C)).1)) 11 0), B)).1 = 0) (hx2 : K = (p_fin t (p_it I t N (p_0 I t C)).1).2.2 ∨ ¬ (x_it (p_it I t N (p_0 I t C)).2 K (0, (upd (pG g (p_fin t (p_it I t N (p_0 I t C)).1)) 11 0), B)).1 = 0) (hx3 : ∀ i : Nat, i < K → wB (x_it (p_it I t N (p_0 I t C)).2 i (0, (upd (pG g (p_fin t (p_it I t N (p_0 I t C)).1)) 11 0), B)).2.2) (hx4 : ∀ i : Nat, i < K → m_let ((p_it I t N (p_0 I t C)).2 (4 * i)) = true) : yM yX4_execute (ws_ yX4_execute cX4_execute 3 (some .int)) (rmD 11 0 0) z D [.ref (m 0)] (tW z D m g B Bs L I C) eI (fun vr H => vr = e_r (x_g (x_it (p_it I t N (p_0 I t C)).2 K (0, (upd (pG g (p_fin t (p_it I t N (p_0 I t C)).1)) 11 0), B)).2.1 (x_it (p_it I t N (p_0 I t C)).2 K (0, (upd (pG g (p_fin t (p_it I t N (p_0 I t C)).1)) 11 0), B)).1 K (p_fin t (p_it I t N (p_0 I t C)).1).2.2) (tThr (x_it (p_it I t N (p_0 I t C)).2 K (0, (upd (pG g (p_fin t (p_it I t N (p_0 I t C)).1)) 11 0), B)).1 2 2 3) ∧ tW z D m (e_g (x_g (x_it (p_it I t N (p_0 I t C)).2 K (0, (upd (pG g (p_fin t (p_it I t N (p_0 I t C)).1)) 11 0), B)).2.1 (x_it (p_it I t N (p_0 I t C)).2 K (0, (upd (pG g (p_fin t (p_it I t N (p_0 I t C)).1)) 11 0), B)).1 K (p_fin t (p_it I t N (p_0 I t C)).1).2.2) (tThr (x_it (p_it I t N (p_0 I t C)).2 K (0, (upd (pG g (p_fin t (p_it I t N (p_0 I t C)).1)) 11 0), B)).1 2 2 3) c) (e_B (x_it (p_it I t N (p_0 I t C)).2 K (0, (upd (pG g (p_fin t (p_it I t N (p_0 I t C)).1)) 11 0), B)).2.2 (sRow Bs 10 B) (tThr (x_it (p_it I t N (p_0 I t C)).2 K (0, (upd (pG g (p_fin t (p_it I t N (p_0 I t C)).1)) 11 0), B)).1 2 2 3)) (e_Bs (sRow Bs 10 B) (tThr (x_it (p_it I t N (p_0 I t C)).2 K (0, (upd (pG g (p_fin t (p_it I t N (p_0 I t C)).1)) 11 0), B)).1 2 2 3) c) L I ((p_it I t N (p_0 I t C)).2) H) 0 0 (tA m) := by
  refine yM_of (own := RX4) (by decide +kernel) rfl (Nat.le_of_ble_eq_true rfl) (fun H h => h.az) fun E hE hW ls hl hin => ?_
  obtain ⟨Q, hQ⟩ : ∃ Q, Q = yEm E eI (fun vr H => vr = e_r (x_g (x_it (p_it I t N (p_0 I t C)).2 K (0, (upd (pG g (p_fin t (p_it I t N (p_0 I t C)).1)) 11 0), B)).2.1 (x_it (p_it I t N (p_0 I t C)).2 K (0, (upd (pG g (p_fin t (p_it I t N (p_0 I t C)).1)) 11 0), B)).1 K (p_fin t (p_it I t N (p_0 I t C)).1).2.2) (tThr (x_it (p_it I t N (p_0 I t C)).2 K (0, (upd (pG g (p_fin t (p_it I t N (p_0 I t C)).1)) 11 0), B)).1 2 2 3) ∧ tW z D m (e_g (x_g (x_it (p_it I t N (p_0 I t C)).2 K (0, (upd (pG g (p_fin t (p_it I t N (p_0 I t C)).1)) 11 0), B)).2.1 (x_it (p_it I t N (p_0 I t C)).2 K (0, (upd (pG g (p_fin t (p_it I t N (p_0 I t C)).1)) 11 0), B)).1 K (p_fin t (p_it I t N (p_0 I t C)).1).2.2) (tThr (x_it (p_it I t N (p_0 I t C)).2 K (0, (upd (pG g (p_fin t (p_it I t N (p_0 I t C)).1)) 11 0), B)).1 2 2 3) c) (e_B (x_it (p_it I t N (p_0 I t C)).2 K (0, (upd (pG g (p_fin t (p_it I t N (p_0 I t C)).1)) 11 0), B)).2.2 (sRow Bs 10 B) (tThr (x_it (p_it I t N (p_0 I t C)).2 K (0, (upd (pG g (p_fin t (p_it I t N (p_0 I t C)).1)) 11 0), B)).1 2 2 3)) (e_Bs (sRow Bs 10 B) (tThr (x_it (p_it I t N (p_0 I t C)).2 K (0, (upd (pG g (p_fin t (p_it I t N (p_0 I t C)).1)) 11 0), B)).1 2 2 3) c) L I ((p_it I t N (p_0 I t C)).2) H) 0 0 (tA m) := ⟨_, rfl⟩
  rw [← hQ]
  generalize (e_s E).heap = H at hW ⊢
  have hl : lv_has ls 3 [(0, .ref (m 0))] := hl
  refine y_aload_n hE dX4_execute_0 rfl (lv_at hl 0 rfl) ?_
  -- call parse []
  refine y_muV (rest := []) hE cl_X4_233 (kX4_parse t N ht ht2 hq hq2 hm1 hm2) dX4_execute_1 hl (Nat.le_of_ble_eq_true rfl) (y_recv hE rfl hW.1) rfl rfl (Nat.le_of_ble_eq_true rfl) hW (fun _ h => h) ⟨(Nat.le_of_ble_eq_true rfl), (Nat.le_of_ble_eq_true rfl)⟩ (fun vr H hW _ _ => ?_)
  have hW : tW z D m (pG g (p_fin t (p_it I t N (p_0 I t C)).1)) B Bs L I ((p_it I t N (p_0 I t C)).2) H := hW
  refine y_st (st' := []) rfl ?_
  refine y_aload_n hE dX4_execute_4 rfl (lv_at hl 0 rfl) ?_
  refine y_iconst (v := 0) hE dX4_execute_5 (by decide) ?_
  refine t_put (g' := upd (pG g (p_fin t (p_it I t N (p_0 I t C)).1)) 11 0) hE hW 11 (by decide) q1987 rfl rfl rfl rfl rfl dX4_execute_6 (fun H hW => ?_)
  refine y_aload_n hE dX4_execute_9 rfl (lv_at hl 0 rfl) ?_
  refine t_get (v := .int (m_o (p_fin t (p_it I t N (p_0 I t C)).1).2.1)) hE 13 (by decide) q1989 rfl hW rfl dX4_execute_10 ?_
  refine y_set1 (w := (-1)) (by show m_o (p_fin t (p_it I t N (p_0 I t C)).1).2.1 = _; rw [he]; rfl) ?_
  refine y_if_lt (tgt := 31) hE dX4_execute_13 (by decide) (fun c13 => ?_) (fun c13 => ?_)
  · -- t 13
    have n13 := Int32.not_le.mpr c13
    refine y_aload_n hE dX4_execute_31 rfl (lv_at hl 0 rfl) ?_
    -- call begins []
    refine y_muV (rest := []) hE cl_X4_92 kX4_begins dX4_execute_32 hl (Nat.le_of_ble_eq_true rfl) (y_recv hE rfl hW.1) rfl rfl (Nat.le_of_ble_eq_true rfl) hW (fun _ h => h) ⟨(Nat.le_of_ble_eq_true rfl), (Nat.le_of_ble_eq_true rfl)⟩ (fun vr H hW _ _ => ?_)
    have hW : tW z D m (upd (pG g (p_fin t (p_it I t N (p_0 I t C)).1)) 11 0) B (sRow Bs 10 B) L I ((p_it I t N (p_0 I t C)).2) H := hW
    refine y_st (st' := []) rfl ?_
    refine y_iconst (v := 0) hE dX4_execute_35 (by decide) ?_
    refine y_istore_n (lv' := [(1, .int 0), (0, .ref (m 0))]) hE dX4_execute_36 rfl hl (by decide) rfl (fun ls hl => ?_)
    refine y_iconst (v := 0) hE dX4_execute_37 (by decide) ?_
    refine y_istore_n (lv' := [(2, .int 0), (1, .int 0), (0, .ref (m 0))]) hE dX4_execute_38 rfl hl (by decide) rfl (fun ls hl => ?_)
    have K39 : ∀ i : Nat, i ≤ K → ∀ (H : Heap) (ls : Array Slot), lv_has ls 3 [(2, .int (nI i)), (1, .int ((x_it (p_it I t N (p_0 I t C)).2 i (0, (upd (pG g (p_fin t (p_it I t N (p_0 I t C)).1)) 11 0), B)).1)), (0, .ref (m 0))] → tW z D m ((x_it (p_it I t N (p_0 I t C)).2 i (0, (upd (pG g (p_fin t (p_it I t N (p_0 I t C)).1)) 11 0), B)).2.1) ((x_it (p_it I t N (p_0 I t C)).2 i (0, (upd (pG g (p_fin t (p_it I t N (p_0 I t C)).1)) 11 0), B)).2.2) (sRow Bs 10 B) L I ((p_it I t N (p_0 I t C)).2) H → yY E (tA m) H 0 0 Q 39 ls [] := by
      refine y_loop ?_ ?_
      · -- the end of the loop at 39
        intro H ls hl hW 
        refine y_iload_n hE dX4_execute_39 rfl (lv_at hl 0 rfl) ?_
        refine y_aload_n hE dX4_execute_40 rfl (lv_at hl 2 rfl) ?_
        refine t_get (v := .int (((x_it (p_it I t N (p_0 I t C)).2 K (0, (upd (pG g (p_fin t (p_it I t N (p_0 I t C)).1)) 11 0), B)).2.1) 16)) hE 16 (by decide) q1992 rfl hW rfl dX4_execute_41 ?_
        refine y_set1 (w := nI (p_fin t (p_it I t N (p_0 I t C)).1).2.2) (by rw [show (x_it (p_it I t N (p_0 I t C)).2 K (0, (upd (pG g (p_fin t (p_it I t N (p_0 I t C)).1)) 11 0), B)).2.1 16 = (upd (pG g (p_fin t (p_it I t N (p_0 I t C)).1)) 11 0) 16 from x_it_o _ _ (by omega) _]; rfl) ?_
        refine y_icmp_ge (tgt := 65) hE dX4_execute_44 (by decide) (fun c44 => ?_) (fun c44 => ?_)
        · -- t 44
          have n44 := Int32.not_lt.mpr c44
          refine y_iload_n hE dX4_execute_65 rfl (lv_at hl 1 rfl) ?_
          refine y_iconst (v := 3) hE dX4_execute_66 (by decide) ?_
          refine y_icmp_ne (tgt := 91) hE dX4_execute_67 (by decide) (fun c67 => ?_) (fun c67 => ?_)
          · -- t 67
            refine y_aload_n hE dX4_execute_91 rfl (lv_at hl 2 rfl) ?_
            refine y_aload_n hE dX4_execute_92 rfl (lv_at hl 2 rfl) ?_
            refine t_get (v := .int (((x_it (p_it I t N (p_0 I t C)).2 K (0, (upd (pG g (p_fin t (p_it I t N (p_0 I t C)).1)) 11 0), B)).2.1) 16)) hE 16 (by decide) q1992 rfl hW rfl dX4_execute_93 ?_
            refine y_set1 (w := nI (p_fin t (p_it I t N (p_0 I t C)).1).2.2) (by rw [show (x_it (p_it I t N (p_0 I t C)).2 K (0, (upd (pG g (p_fin t (p_it I t N (p_0 I t C)).1)) 11 0), B)).2.1 16 = (upd (pG g (p_fin t (p_it I t N (p_0 I t C)).1)) 11 0) 16 from x_it_o _ _ (by omega) _]; rfl) ?_
            refine t_put (g' := upd ((x_it (p_it I t N (p_0 I t C)).2 K (0, (upd (pG g (p_fin t (p_it I t N (p_0 I t C)).1)) 11 0), B)).2.1) 4 (nI (p_fin t (p_it I t N (p_0 I t C)).1).2.2)) hE hW 4 (by decide) q1980 rfl rfl rfl rfl rfl dX4_execute_96 (fun H hW => ?_)
            have hW : tW z D m (x_g (x_it (p_it I t N (p_0 I t C)).2 K (0, (upd (pG g (p_fin t (p_it I t N (p_0 I t C)).1)) 11 0), B)).2.1 (x_it (p_it I t N (p_0 I t C)).2 K (0, (upd (pG g (p_fin t (p_it I t N (p_0 I t C)).1)) 11 0), B)).1 K (p_fin t (p_it I t N (p_0 I t C)).1).2.2) ((x_it (p_it I t N (p_0 I t C)).2 K (0, (upd (pG g (p_fin t (p_it I t N (p_0 I t C)).1)) 11 0), B)).2.2) (sRow Bs 10 B) L I ((p_it I t N (p_0 I t C)).2) H := hW.cast (by rw [x_g, if_neg c67]) rfl rfl rfl rfl rfl
            refine y_aload_n hE dX4_execute_99 rfl (lv_at hl 2 rfl) ?_
            refine y_iload_n hE dX4_execute_100 rfl (lv_at hl 1 rfl) ?_
            refine y_iconst (v := 2) hE dX4_execute_101 (by decide) ?_
            refine y_iconst (v := 2) hE dX4_execute_102 (by decide) ?_
            refine y_iconst (v := 3) hE dX4_execute_103 (by decide) ?_
            -- call ends ['(x_it (p_it I t N (p_0 I t C)).2 K (0, (upd (pG g (p_fin t (p_it I t N (p_0 I t C)).1)) 11 0), B)).1', '2', '2', '3']
            refine y_muV (rest := []) hE cl_X4_99 (kX4_ends c ((x_it (p_it I t N (p_0 I t C)).2 K (0, (upd (pG g (p_fin t (p_it I t N (p_0 I t C)).1)) 11 0), B)).1) 2 2 3 (by rw [x_g_2]; exact (x_it_o _ _ (by omega) _).trans hc) hC) dX4_execute_104 hl (Nat.le_of_ble_eq_true rfl) (y_recv hE rfl hW.1) rfl rfl (Nat.le_of_ble_eq_true rfl) hW (fun _ h => h) ⟨(Nat.le_of_ble_eq_true rfl), (Nat.le_of_ble_eq_true rfl)⟩ (fun vr H hW _ _ => ?_)
            obtain ⟨hr, hW⟩ := hW
            subst hr
            have hW : tW z D m (e_g (x_g (x_it (p_it I t N (p_0 I t C)).2 K (0, (upd (pG g (p_fin t (p_it I t N (p_0 I t C)).1)) 11 0), B)).2.1 (x_it (p_it I t N (p_0 I t C)).2 K (0, (upd (pG g (p_fin t (p_it I t N (p_0 I t C)).1)) 11 0), B)).1 K (p_fin t (p_it I t N (p_0 I t C)).1).2.2) (tThr ((x_it (p_it I t N (p_0 I t C)).2 K (0, (upd (pG g (p_fin t (p_it I t N (p_0 I t C)).1)) 11 0), B)).1) 2 2 3) c) (e_B ((x_it (p_it I t N (p_0 I t C)).2 K (0, (upd (pG g (p_fin t (p_it I t N (p_0 I t C)).1)) 11 0), B)).2.2) (sRow Bs 10 B) (tThr ((x_it (p_it I t N (p_0 I t C)).2 K (0, (upd (pG g (p_fin t (p_it I t N (p_0 I t C)).1)) 11 0), B)).1) 2 2 3)) (e_Bs (sRow Bs 10 B) (tThr ((x_it (p_it I t N (p_0 I t C)).2 K (0, (upd (pG g (p_fin t (p_it I t N (p_0 I t C)).1)) 11 0), B)).1) 2 2 3) c) L I ((p_it I t N (p_0 I t C)).2) H := hW
            refine y_st (st' := [.int (e_r (x_g (x_it (p_it I t N (p_0 I t C)).2 K (0, (upd (pG g (p_fin t (p_it I t N (p_0 I t C)).1)) 11 0), B)).2.1 (x_it (p_it I t N (p_0 I t C)).2 K (0, (upd (pG g (p_fin t (p_it I t N (p_0 I t C)).1)) 11 0), B)).1 K (p_fin t (p_it I t N (p_0 I t C)).1).2.2) (tThr ((x_it (p_it I t N (p_0 I t C)).2 K (0, (upd (pG g (p_fin t (p_it I t N (p_0 I t C)).1)) 11 0), B)).1) 2 2 3))]) rfl ?_
            rw [hQ]
            exact y_iret hE dX4_execute_107 ⟨rfl, hW.cast rfl rfl rfl rfl rfl rfl⟩ (Nat.le_of_ble_eq_true rfl) (Nat.le_of_ble_eq_true rfl)
          · -- f 67
            refine y_aload_n hE dX4_execute_70 rfl (lv_at hl 2 rfl) ?_
            refine y_aload_n hE dX4_execute_71 rfl (lv_at hl 2 rfl) ?_
            refine t_get (v := .int (((x_it (p_it I t N (p_0 I t C)).2 K (0, (upd (pG g (p_fin t (p_it I t N (p_0 I t C)).1)) 11 0), B)).2.1) 5)) hE 5 (by decide) q1981 rfl hW rfl dX4_execute_72 ?_
            refine t_put (g' := upd ((x_it (p_it I t N (p_0 I t C)).2 K (0, (upd (pG g (p_fin t (p_it I t N (p_0 I t C)).1)) 11 0), B)).2.1) 7 (((x_it (p_it I t N (p_0 I t C)).2 K (0, (upd (pG g (p_fin t (p_it I t N (p_0 I t C)).1)) 11 0), B)).2.1) 5)) hE hW 7 (by decide) q1983 rfl rfl rfl rfl rfl dX4_execute_75 (fun H hW => ?_)
            refine y_aload_n hE dX4_execute_78 rfl (lv_at hl 2 rfl) ?_
            refine y_bipush (v := 10) hE dX4_execute_79 (by decide) ?_
            refine t_put (g' := upd (upd ((x_it (p_it I t N (p_0 I t C)).2 K (0, (upd (pG g (p_fin t (p_it I t N (p_0 I t C)).1)) 11 0), B)).2.1) 7 (((x_it (p_it I t N (p_0 I t C)).2 K (0, (upd (pG g (p_fin t (p_it I t N (p_0 I t C)).1)) 11 0), B)).2.1) 5)) 5 10) hE hW 5 (by decide) q1981 rfl rfl rfl rfl rfl dX4_execute_81 (fun H hW => ?_)
            refine y_aload_n hE dX4_execute_84 rfl (lv_at hl 2 rfl) ?_
            refine y_iload_n hE dX4_execute_85 rfl (lv_at hl 0 rfl) ?_
            refine y_iconst (v := 1) hE dX4_execute_86 (by decide) ?_
            refine y_isub hE dX4_execute_87 ?_
            refine t_put (g' := upd (upd (upd ((x_it (p_it I t N (p_0 I t C)).2 K (0, (upd (pG g (p_fin t (p_it I t N (p_0 I t C)).1)) 11 0), B)).2.1) 7 (((x_it (p_it I t N (p_0 I t C)).2 K (0, (upd (pG g (p_fin t (p_it I t N (p_0 I t C)).1)) 11 0), B)).2.1) 5)) 5 10) 6 ((nI K) - 1)) hE hW 6 (by decide) q1982 rfl rfl rfl rfl rfl dX4_execute_88 (fun H hW => ?_)
            refine y_aload_n hE dX4_execute_91 rfl (lv_at hl 2 rfl) ?_
            refine y_aload_n hE dX4_execute_92 rfl (lv_at hl 2 rfl) ?_
            refine t_get (v := .int (((x_it (p_it I t N (p_0 I t C)).2 K (0, (upd (pG g (p_fin t (p_it I t N (p_0 I t C)).1)) 11 0), B)).2.1) 16)) hE 16 (by decide) q1992 rfl hW rfl dX4_execute_93 ?_
            refine y_set1 (w := nI (p_fin t (p_it I t N (p_0 I t C)).1).2.2) (by rw [show (x_it (p_it I t N (p_0 I t C)).2 K (0, (upd (pG g (p_fin t (p_it I t N (p_0 I t C)).1)) 11 0), B)).2.1 16 = (upd (pG g (p_fin t (p_it I t N (p_0 I t C)).1)) 11 0) 16 from x_it_o _ _ (by omega) _]; rfl) ?_
            refine t_put (g' := upd (upd (upd (upd ((x_it (p_it I t N (p_0 I t C)).2 K (0, (upd (pG g (p_fin t (p_it I t N (p_0 I t C)).1)) 11 0), B)).2.1) 7 (((x_it (p_it I t N (p_0 I t C)).2 K (0, (upd (pG g (p_fin t (p_it I t N (p_0 I t C)).1)) 11 0), B)).2.1) 5)) 5 10) 6 ((nI K) - 1)) 4 (nI (p_fin t (p_it I t N (p_0 I t C)).1).2.2)) hE hW 4 (by decide) q1980 rfl rfl rfl rfl rfl dX4_execute_96 (fun H hW => ?_)
            have hW : tW z D m (x_g (x_it (p_it I t N (p_0 I t C)).2 K (0, (upd (pG g (p_fin t (p_it I t N (p_0 I t C)).1)) 11 0), B)).2.1 (x_it (p_it I t N (p_0 I t C)).2 K (0, (upd (pG g (p_fin t (p_it I t N (p_0 I t C)).1)) 11 0), B)).1 K (p_fin t (p_it I t N (p_0 I t C)).1).2.2) ((x_it (p_it I t N (p_0 I t C)).2 K (0, (upd (pG g (p_fin t (p_it I t N (p_0 I t C)).1)) 11 0), B)).2.2) (sRow Bs 10 B) L I ((p_it I t N (p_0 I t C)).2) H := hW.cast (by rw [x_g, if_pos c67]) rfl rfl rfl rfl rfl
            refine y_aload_n hE dX4_execute_99 rfl (lv_at hl 2 rfl) ?_
            refine y_iload_n hE dX4_execute_100 rfl (lv_at hl 1 rfl) ?_
            refine y_iconst (v := 2) hE dX4_execute_101 (by decide) ?_
            refine y_iconst (v := 2) hE dX4_execute_102 (by decide) ?_
            refine y_iconst (v := 3) hE dX4_execute_103 (by decide) ?_
            -- call ends ['(x_it (p_it I t N (p_0 I t C)).2 K (0, (upd (pG g (p_fin t (p_it I t N (p_0 I t C)).1)) 11 0), B)).1', '2', '2', '3']
            refine y_muV (rest := []) hE cl_X4_99 (kX4_ends c ((x_it (p_it I t N (p_0 I t C)).2 K (0, (upd (pG g (p_fin t (p_it I t N (p_0 I t C)).1)) 11 0), B)).1) 2 2 3 (by rw [x_g_2]; exact (x_it_o _ _ (by omega) _).trans hc) hC) dX4_execute_104 hl (Nat.le_of_ble_eq_true rfl) (y_recv hE rfl hW.1) rfl rfl (Nat.le_of_ble_eq_true rfl) hW (fun _ h => h) ⟨(Nat.le_of_ble_eq_true rfl), (Nat.le_of_ble_eq_true rfl)⟩ (fun vr H hW _ _ => ?_)
            obtain ⟨hr, hW⟩ := hW
            subst hr
            have hW : tW z D m (e_g (x_g (x_it (p_it I t N (p_0 I t C)).2 K (0, (upd (pG g (p_fin t (p_it I t N (p_0 I t C)).1)) 11 0), B)).2.1 (x_it (p_it I t N (p_0 I t C)).2 K (0, (upd (pG g (p_fin t (p_it I t N (p_0 I t C)).1)) 11 0), B)).1 K (p_fin t (p_it I t N (p_0 I t C)).1).2.2) (tThr ((x_it (p_it I t N (p_0 I t C)).2 K (0, (upd (pG g (p_fin t (p_it I t N (p_0 I t C)).1)) 11 0), B)).1) 2 2 3) c) (e_B ((x_it (p_it I t N (p_0 I t C)).2 K (0, (upd (pG g (p_fin t (p_it I t N (p_0 I t C)).1)) 11 0), B)).2.2) (sRow Bs 10 B) (tThr ((x_it (p_it I t N (p_0 I t C)).2 K (0, (upd (pG g (p_fin t (p_it I t N (p_0 I t C)).1)) 11 0), B)).1) 2 2 3)) (e_Bs (sRow Bs 10 B) (tThr ((x_it (p_it I t N (p_0 I t C)).2 K (0, (upd (pG g (p_fin t (p_it I t N (p_0 I t C)).1)) 11 0), B)).1) 2 2 3) c) L I ((p_it I t N (p_0 I t C)).2) H := hW
            refine y_st (st' := [.int (e_r (x_g (x_it (p_it I t N (p_0 I t C)).2 K (0, (upd (pG g (p_fin t (p_it I t N (p_0 I t C)).1)) 11 0), B)).2.1 (x_it (p_it I t N (p_0 I t C)).2 K (0, (upd (pG g (p_fin t (p_it I t N (p_0 I t C)).1)) 11 0), B)).1 K (p_fin t (p_it I t N (p_0 I t C)).1).2.2) (tThr ((x_it (p_it I t N (p_0 I t C)).2 K (0, (upd (pG g (p_fin t (p_it I t N (p_0 I t C)).1)) 11 0), B)).1) 2 2 3))]) rfl ?_
            rw [hQ]
            exact y_iret hE dX4_execute_107 ⟨rfl, hW.cast rfl rfl rfl rfl rfl rfl⟩ (Nat.le_of_ble_eq_true rfl) (Nat.le_of_ble_eq_true rfl)
        · -- f 44
          have n44 := Int32.not_le.mp c44
          refine y_iload_n hE dX4_execute_47 rfl (lv_at hl 1 rfl) ?_
          refine y_if_ne (tgt := 65) hE dX4_execute_48 (by decide) (fun c48 => ?_) (fun c48 => ?_)
          · -- t 48
            refine y_iload_n hE dX4_execute_65 rfl (lv_at hl 1 rfl) ?_
            refine y_iconst (v := 3) hE dX4_execute_66 (by decide) ?_
            refine y_icmp_ne (tgt := 91) hE dX4_execute_67 (by decide) (fun c67 => ?_) (fun c67 => ?_)
            · -- t 67
              refine y_aload_n hE dX4_execute_91 rfl (lv_at hl 2 rfl) ?_
              refine y_aload_n hE dX4_execute_92 rfl (lv_at hl 2 rfl) ?_
              refine t_get (v := .int (((x_it (p_it I t N (p_0 I t C)).2 K (0, (upd (pG g (p_fin t (p_it I t N (p_0 I t C)).1)) 11 0), B)).2.1) 16)) hE 16 (by decide) q1992 rfl hW rfl dX4_execute_93 ?_
              refine y_set1 (w := nI (p_fin t (p_it I t N (p_0 I t C)).1).2.2) (by rw [show (x_it (p_it I t N (p_0 I t C)).2 K (0, (upd (pG g (p_fin t (p_it I t N (p_0 I t C)).1)) 11 0), B)).2.1 16 = (upd (pG g (p_fin t (p_it I t N (p_0 I t C)).1)) 11 0) 16 from x_it_o _ _ (by omega) _]; rfl) ?_
              refine t_put (g' := upd ((x_it (p_it I t N (p_0 I t C)).2 K (0, (upd (pG g (p_fin t (p_it I t N (p_0 I t C)).1)) 11 0), B)).2.1) 4 (nI (p_fin t (p_it I t N (p_0 I t C)).1).2.2)) hE hW 4 (by decide) q1980 rfl rfl rfl rfl rfl dX4_execute_96 (fun H hW => ?_)
              have hW : tW z D m (x_g (x_it (p_it I t N (p_0 I t C)).2 K (0, (upd (pG g (p_fin t (p_it I t N (p_0 I t C)).1)) 11 0), B)).2.1 (x_it (p_it I t N (p_0 I t C)).2 K (0, (upd (pG g (p_fin t (p_it I t N (p_0 I t C)).1)) 11 0), B)).1 K (p_fin t (p_it I t N (p_0 I t C)).1).2.2) ((x_it (p_it I t N (p_0 I t C)).2 K (0, (upd (pG g (p_fin t (p_it I t N (p_0 I t C)).1)) 11 0), B)).2.2) (sRow Bs 10 B) L I ((p_it I t N (p_0 I t C)).2) H := hW.cast (by rw [x_g, if_neg c67]) rfl rfl rfl rfl rfl
              refine y_aload_n hE dX4_execute_99 rfl (lv_at hl 2 rfl) ?_
              refine y_iload_n hE dX4_execute_100 rfl (lv_at hl 1 rfl) ?_
              refine y_iconst (v := 2) hE dX4_execute_101 (by decide) ?_
              refine y_iconst (v := 2) hE dX4_execute_102 (by decide) ?_
              refine y_iconst (v := 3) hE dX4_execute_103 (by decide) ?_
              -- call ends ['(x_it (p_it I t N (p_0 I t C)).2 K (0, (upd (pG g (p_fin t (p_it I t N (p_0 I t C)).1)) 11 0), B)).1', '2', '2', '3']
              refine y_muV (rest := []) hE cl_X4_99 (kX4_ends c ((x_it (p_it I t N (p_0 I t C)).2 K (0, (upd (pG g (p_fin t (p_it I t N (p_0 I t C)).1)) 11 0), B)).1) 2 2 3 (by rw [x_g_2]; exact (x_it_o _ _ (by omega) _).trans hc) hC) dX4_execute_104 hl (Nat.le_of_ble_eq_true rfl) (y_recv hE rfl hW.1) rfl rfl (Nat.le_of_ble_eq_true rfl) hW (fun _ h => h) ⟨(Nat.le_of_ble_eq_true rfl), (Nat.le_of_ble_eq_true rfl)⟩ (fun vr H hW _ _ => ?_)
              obtain ⟨hr, hW⟩ := hW
              subst hr
              have hW : tW z D m (e_g (x_g (x_it (p_it I t N (p_0 I t C)).2 K (0, (upd (pG g (p_fin t (p_it I t N (p_0 I t C)).1)) 11 0), B)).2.1 (x_it (p_it I t N (p_0 I t C)).2 K (0, (upd (pG g (p_fin t (p_it I t N (p_0 I t C)).1)) 11 0), B)).1 K (p_fin t (p_it I t N (p_0 I t C)).1).2.2) (tThr ((x_it (p_it I t N (p_0 I t C)).2 K (0, (upd (pG g (p_fin t (p_it I t N (p_0 I t C)).1)) 11 0), B)).1) 2 2 3) c) (e_B ((x_it (p_it I t N (p_0 I t C)).2 K (0, (upd (pG g (p_fin t (p_it I t N (p_0 I t C)).1)) 11 0), B)).2.2) (sRow Bs 10 B) (tThr ((x_it (p_it I t N (p_0 I t C)).2 K (0, (upd (pG g (p_fin t (p_it I t N (p_0 I t C)).1)) 11 0), B)).1) 2 2 3)) (e_Bs (sRow Bs 10 B) (tThr ((x_it (p_it I t N (p_0 I t C)).2 K (0, (upd (pG g (p_fin t (p_it I t N (p_0 I t C)).1)) 11 0), B)).1) 2 2 3) c) L I ((p_it I t N (p_0 I t C)).2) H := hW
              refine y_st (st' := [.int (e_r (x_g (x_it (p_it I t N (p_0 I t C)).2 K (0, (upd (pG g (p_fin t (p_it I t N (p_0 I t C)).1)) 11 0), B)).2.1 (x_it (p_it I t N (p_0 I t C)).2 K (0, (upd (pG g (p_fin t (p_it I t N (p_0 I t C)).1)) 11 0), B)).1 K (p_fin t (p_it I t N (p_0 I t C)).1).2.2) (tThr ((x_it (p_it I t N (p_0 I t C)).2 K (0, (upd (pG g (p_fin t (p_it I t N (p_0 I t C)).1)) 11 0), B)).1) 2 2 3))]) rfl ?_
              rw [hQ]
              exact y_iret hE dX4_execute_107 ⟨rfl, hW.cast rfl rfl rfl rfl rfl rfl⟩ (Nat.le_of_ble_eq_true rfl) (Nat.le_of_ble_eq_true rfl)
            · -- f 67
              refine y_aload_n hE dX4_execute_70 rfl (lv_at hl 2 rfl) ?_
              refine y_aload_n hE dX4_execute_71 rfl (lv_at hl 2 rfl) ?_
              refine t_get (v := .int (((x_it (p_it I t N (p_0 I t C)).2 K (0, (upd (pG g (p_fin t (p_it I t N (p_0 I t C)).1)) 11 0), B)).2.1) 5)) hE 5 (by decide) q1981 rfl hW rfl dX4_execute_72 ?_
              refine t_put (g' := upd ((x_it (p_it I t N (p_0 I t C)).2 K (0, (upd (pG g (p_fin t (p_it I t N (p_0 I t C)).1)) 11 0), B)).2.1) 7 (((x_it (p_it I t N (p_0 I t C)).2 K (0, (upd (pG g (p_fin t (p_it I t N (p_0 I t C)).1)) 11 0), B)).2.1) 5)) hE hW 7 (by decide) q1983 rfl rfl rfl rfl rfl dX4_execute_75 (fun H hW => ?_)
              refine y_aload_n hE dX4_execute_78 rfl (lv_at hl 2 rfl) ?_
              refine y_bipush (v := 10) hE dX4_execute_79 (by decide) ?_
              refine t_put (g' := upd (upd ((x_it (p_it I t N (p_0 I t C)).2 K (0, (upd (pG g (p_fin t (p_it I t N (p_0 I t C)).1)) 11 0), B)).2.1) 7 (((x_it (p_it I t N (p_0 I t C)).2 K (0, (upd (pG g (p_fin t (p_it I t N (p_0 I t C)).1)) 11 0), B)).2.1) 5)) 5 10) hE hW 5 (by decide) q1981 rfl rfl rfl rfl rfl dX4_execute_81 (fun H hW => ?_)
              refine y_aload_n hE dX4_execute_84 rfl (lv_at hl 2 rfl) ?_
              refine y_iload_n hE dX4_execute_85 rfl (lv_at hl 0 rfl) ?_
              refine y_iconst (v := 1) hE dX4_execute_86 (by decide) ?_
              refine y_isub hE dX4_execute_87 ?_
              refine t_put (g' := upd (upd (upd ((x_it (p_it I t N (p_0 I t C)).2 K (0, (upd (pG g (p_fin t (p_it I t N (p_0 I t C)).1)) 11 0), B)).2.1) 7 (((x_it (p_it I t N (p_0 I t C)).2 K (0, (upd (pG g (p_fin t (p_it I t N (p_0 I t C)).1)) 11 0), B)).2.1) 5)) 5 10) 6 ((nI K) - 1)) hE hW 6 (by decide) q1982 rfl rfl rfl rfl rfl dX4_execute_88 (fun H hW => ?_)
              refine y_aload_n hE dX4_execute_91 rfl (lv_at hl 2 rfl) ?_
              refine y_aload_n hE dX4_execute_92 rfl (lv_at hl 2 rfl) ?_
              refine t_get (v := .int (((x_it (p_it I t N (p_0 I t C)).2 K (0, (upd (pG g (p_fin t (p_it I t N (p_0 I t C)).1)) 11 0), B)).2.1) 16)) hE 16 (by decide) q1992 rfl hW rfl dX4_execute_93 ?_
              refine y_set1 (w := nI (p_fin t (p_it I t N (p_0 I t C)).1).2.2) (by rw [show (x_it (p_it I t N (p_0 I t C)).2 K (0, (upd (pG g (p_fin t (p_it I t N (p_0 I t C)).1)) 11 0), B)).2.1 16 = (upd (pG g (p_fin t (p_it I t N (p_0 I t C)).1)) 11 0) 16 from x_it_o _ _ (by omega) _]; rfl) ?_
              refine t_put (g' := upd (upd (upd (upd ((x_it (p_it I t N (p_0 I t C)).2 K (0, (upd (pG g (p_fin t (p_it I t N (p_0 I t C)).1)) 11 0), B)).2.1) 7 (((x_it (p_it I t N (p_0 I t C)).2 K (0, (upd (pG g (p_fin t (p_it I t N (p_0 I t C)).1)) 11 0), B)).2.1) 5)) 5 10) 6 ((nI K) - 1)) 4 (nI (p_fin t (p_it I t N (p_0 I t C)).1).2.2)) hE hW 4 (by decide) q1980 rfl rfl rfl rfl rfl dX4_execute_96 (fun H hW => ?_)
              have hW : tW z D m (x_g (x_it (p_it I t N (p_0 I t C)).2 K (0, (upd (pG g (p_fin t (p_it I t N (p_0 I t C)).1)) 11 0), B)).2.1 (x_it (p_it I t N (p_0 I t C)).2 K (0, (upd (pG g (p_fin t (p_it I t N (p_0 I t C)).1)) 11 0), B)).1 K (p_fin t (p_it I t N (p_0 I t C)).1).2.2) ((x_it (p_it I t N (p_0 I t C)).2 K (0, (upd (pG g (p_fin t (p_it I t N (p_0 I t C)).1)) 11 0), B)).2.2) (sRow Bs 10 B) L I ((p_it I t N (p_0 I t C)).2) H := hW.cast (by rw [x_g, if_pos c67]) rfl rfl rfl rfl rfl
              refine y_aload_n hE dX4_execute_99 rfl (lv_at hl 2 rfl) ?_
              refine y_iload_n hE dX4_execute_100 rfl (lv_at hl 1 rfl) ?_
              refine y_iconst (v := 2) hE dX4_execute_101 (by decide) ?_
              refine y_iconst (v := 2) hE dX4_execute_102 (by decide) ?_
              refine y_iconst (v := 3) hE dX4_execute_103 (by decide) ?_
              -- call ends ['(x_it (p_it I t N (p_0 I t C)).2 K (0, (upd (pG g (p_fin t (p_it I t N (p_0 I t C)).1)) 11 0), B)).1', '2', '2', '3']
              refine y_muV (rest := []) hE cl_X4_99 (kX4_ends c ((x_it (p_it I t N (p_0 I t C)).2 K (0, (upd (pG g (p_fin t (p_it I t N (p_0 I t C)).1)) 11 0), B)).1) 2 2 3 (by rw [x_g_2]; exact (x_it_o _ _ (by omega) _).trans hc) hC) dX4_execute_104 hl (Nat.le_of_ble_eq_true rfl) (y_recv hE rfl hW.1) rfl rfl (Nat.le_of_ble_eq_true rfl) hW (fun _ h => h) ⟨(Nat.le_of_ble_eq_true rfl), (Nat.le_of_ble_eq_true rfl)⟩ (fun vr H hW _ _ => ?_)
              obtain ⟨hr, hW⟩ := hW
              subst hr
              have hW : tW z D m (e_g (x_g (x_it (p_it I t N (p_0 I t C)).2 K (0, (upd (pG g (p_fin t (p_it I t N (p_0 I t C)).1)) 11 0), B)).2.1 (x_it (p_it I t N (p_0 I t C)).2 K (0, (upd (pG g (p_fin t (p_it I t N (p_0 I t C)).1)) 11 0), B)).1 K (p_fin t (p_it I t N (p_0 I t C)).1).2.2) (tThr ((x_it (p_it I t N (p_0 I t C)).2 K (0, (upd (pG g (p_fin t (p_it I t N (p_0 I t C)).1)) 11 0), B)).1) 2 2 3) c) (e_B ((x_it (p_it I t N (p_0 I t C)).2 K (0, (upd (pG g (p_fin t (p_it I t N (p_0 I t C)).1)) 11 0), B)).2.2) (sRow Bs 10 B) (tThr ((x_it (p_it I t N (p_0 I t C)).2 K (0, (upd (pG g (p_fin t (p_it I t N (p_0 I t C)).1)) 11 0), B)).1) 2 2 3)) (e_Bs (sRow Bs 10 B) (tThr ((x_it (p_it I t N (p_0 I t C)).2 K (0, (upd (pG g (p_fin t (p_it I t N (p_0 I t C)).1)) 11 0), B)).1) 2 2 3) c) L I ((p_it I t N (p_0 I t C)).2) H := hW
              refine y_st (st' := [.int (e_r (x_g (x_it (p_it I t N (p_0 I t C)).2 K (0, (upd (pG g (p_fin t (p_it I t N (p_0 I t C)).1)) 11 0), B)).2.1 (x_it (p_it I t N (p_0 I t C)).2 K (0, (upd (pG g (p_fin t (p_it I t N (p_0 I t C)).1)) 11 0), B)).1 K (p_fin t (p_it I t N (p_0 I t C)).1).2.2) (tThr ((x_it (p_it I t N (p_0 I t C)).2 K (0, (upd (pG g (p_fin t (p_it I t N (p_0 I t C)).1)) 11 0), B)).1) 2 2 3))]) rfl ?_
              rw [hQ]
              exact y_iret hE dX4_execute_107 ⟨rfl, hW.cast rfl rfl rfl rfl rfl rfl⟩ (Nat.le_of_ble_eq_true rfl) (Nat.le_of_ble_eq_true rfl)
          · -- f 48
            exact absurd c48 (hx2.resolve_left (fun e => c44 (by rw [e]; exact Int32.le_refl _)))
      · -- a round of the loop at 39
        intro i hi ih39 H ls hl hW 
        refine y_iload_n hE dX4_execute_39 rfl (lv_at hl 0 rfl) ?_
        refine y_aload_n hE dX4_execute_40 rfl (lv_at hl 2 rfl) ?_
        refine t_get (v := .int (((x_it (p_it I t N (p_0 I t C)).2 i (0, (upd (pG g (p_fin t (p_it I t N (p_0 I t C)).1)) 11 0), B)).2.1) 16)) hE 16 (by decide) q1992 rfl hW rfl dX4_execute_41 ?_
        refine y_set1 (w := nI (p_fin t (p_it I t N (p_0 I t C)).1).2.2) (by rw [show (x_it (p_it I t N (p_0 I t C)).2 i (0, (upd (pG g (p_fin t (p_it I t N (p_0 I t C)).1)) 11 0), B)).2.1 16 = (upd (pG g (p_fin t (p_it I t N (p_0 I t C)).1)) 11 0) 16 from x_it_o _ _ (by omega) _]; rfl) ?_
        refine y_icmp_ge (tgt := 65) hE dX4_execute_44 (by decide) (fun c44 => ?_) (fun c44 => ?_)
        · -- t 44
          exact absurd c44 (nI_ge (by omega) (by omega))
        · -- f 44
          have n44 := Int32.not_le.mp c44
          refine y_iload_n hE dX4_execute_47 rfl (lv_at hl 1 rfl) ?_
          refine y_if_ne (tgt := 65) hE dX4_execute_48 (by decide) (fun c48 => ?_) (fun c48 => ?_)
          · -- t 48
            exact absurd (hx1 i hi) c48
          · -- f 48
            refine y_aload_n hE dX4_execute_51 rfl (lv_at hl 2 rfl) ?_
            refine y_iconst (v := 4) hE dX4_execute_52 (by decide) ?_
            refine y_iload_n hE dX4_execute_53 rfl (lv_at hl 0 rfl) ?_
            refine y_imul hE dX4_execute_54 ?_
            refine y_set1 (w := nI (4 * i)) (by show nI 4 * nI i = _; rw [pk_mul]) ?_
            obtain ⟨w1, w2, ⟨q, w3, w4⟩, w5, w6, w7, w8⟩ := hx3 i hi
            -- call does ['(4 * i)']
            refine y_muV (rest := []) hE cl_X4_236 (kX4_does (m_n (x_it (p_it I t N (p_0 I t C)).2 i (0, (upd (pG g (p_fin t (p_it I t N (p_0 I t C)).1)) 11 0), B)).2.2) q (m_tm (x_it (p_it I t N (p_0 I t C)).2 i (0, (upd (pG g (p_fin t (p_it I t N (p_0 I t C)).1)) 11 0), B)).2.2) (m_dn (x_it (p_it I t N (p_0 I t C)).2 i (0, (upd (pG g (p_fin t (p_it I t N (p_0 I t C)).1)) 11 0), B)).2.2) (4 * i) w1 w2 w3 w4 w7 w8 w5 w6 (hx4 i hi) (by omega)) dX4_execute_55 hl (Nat.le_of_ble_eq_true rfl) (y_recv hE rfl hW.1) rfl rfl (Nat.le_of_ble_eq_true rfl) hW (fun _ h => h) ⟨(Nat.le_of_ble_eq_true rfl), (Nat.le_of_ble_eq_true rfl)⟩ (fun vr H hW _ _ => ?_)
            obtain ⟨hr, hW⟩ := hW
            subst hr
            have hW : tW z D m (tGo ((x_it (p_it I t N (p_0 I t C)).2 i (0, (upd (pG g (p_fin t (p_it I t N (p_0 I t C)).1)) 11 0), B)).2.1) (o_does ((x_it (p_it I t N (p_0 I t C)).2 i (0, (upd (pG g (p_fin t (p_it I t N (p_0 I t C)).1)) 11 0), B)).2.2) (m_n (x_it (p_it I t N (p_0 I t C)).2 i (0, (upd (pG g (p_fin t (p_it I t N (p_0 I t C)).1)) 11 0), B)).2.2) (m_tm (x_it (p_it I t N (p_0 I t C)).2 i (0, (upd (pG g (p_fin t (p_it I t N (p_0 I t C)).1)) 11 0), B)).2.2) (m_dn (x_it (p_it I t N (p_0 I t C)).2 i (0, (upd (pG g (p_fin t (p_it I t N (p_0 I t C)).1)) 11 0), B)).2.2) (((p_it I t N (p_0 I t C)).2) (4 * i)) (((p_it I t N (p_0 I t C)).2) ((4 * i) + 1)) (((p_it I t N (p_0 I t C)).2) ((4 * i) + 2)) (((p_it I t N (p_0 I t C)).2) ((4 * i) + 3)))) (tBo ((x_it (p_it I t N (p_0 I t C)).2 i (0, (upd (pG g (p_fin t (p_it I t N (p_0 I t C)).1)) 11 0), B)).2.2) (o_does ((x_it (p_it I t N (p_0 I t C)).2 i (0, (upd (pG g (p_fin t (p_it I t N (p_0 I t C)).1)) 11 0), B)).2.2) (m_n (x_it (p_it I t N (p_0 I t C)).2 i (0, (upd (pG g (p_fin t (p_it I t N (p_0 I t C)).1)) 11 0), B)).2.2) (m_tm (x_it (p_it I t N (p_0 I t C)).2 i (0, (upd (pG g (p_fin t (p_it I t N (p_0 I t C)).1)) 11 0), B)).2.2) (m_dn (x_it (p_it I t N (p_0 I t C)).2 i (0, (upd (pG g (p_fin t (p_it I t N (p_0 I t C)).1)) 11 0), B)).2.2) (((p_it I t N (p_0 I t C)).2) (4 * i)) (((p_it I t N (p_0 I t C)).2) ((4 * i) + 1)) (((p_it I t N (p_0 I t C)).2) ((4 * i) + 2)) (((p_it I t N (p_0 I t C)).2) ((4 * i) + 3)))) (sRow Bs 10 B) L I ((p_it I t N (p_0 I t C)).2) H := hW
            refine y_st (st' := [.int (tBy (o_does ((x_it (p_it I t N (p_0 I t C)).2 i (0, (upd (pG g (p_fin t (p_it I t N (p_0 I t C)).1)) 11 0), B)).2.2) (m_n (x_it (p_it I t N (p_0 I t C)).2 i (0, (upd (pG g (p_fin t (p_it I t N (p_0 I t C)).1)) 11 0), B)).2.2) (m_tm (x_it (p_it I t N (p_0 I t C)).2 i (0, (upd (pG g (p_fin t (p_it I t N (p_0 I t C)).1)) 11 0), B)).2.2) (m_dn (x_it (p_it I t N (p_0 I t C)).2 i (0, (upd (pG g (p_fin t (p_it I t N (p_0 I t C)).1)) 11 0), B)).2.2) (((p_it I t N (p_0 I t C)).2) (4 * i)) (((p_it I t N (p_0 I t C)).2) ((4 * i) + 1)) (((p_it I t N (p_0 I t C)).2) ((4 * i) + 2)) (((p_it I t N (p_0 I t C)).2) ((4 * i) + 3))))]) rfl ?_
            refine y_istore_n (lv' := [(1, .int (tBy (o_does ((x_it (p_it I t N (p_0 I t C)).2 i (0, (upd (pG g (p_fin t (p_it I t N (p_0 I t C)).1)) 11 0), B)).2.2) (m_n (x_it (p_it I t N (p_0 I t C)).2 i (0, (upd (pG g (p_fin t (p_it I t N (p_0 I t C)).1)) 11 0), B)).2.2) (m_tm (x_it (p_it I t N (p_0 I t C)).2 i (0, (upd (pG g (p_fin t (p_it I t N (p_0 I t C)).1)) 11 0), B)).2.2) (m_dn (x_it (p_it I t N (p_0 I t C)).2 i (0, (upd (pG g (p_fin t (p_it I t N (p_0 I t C)).1)) 11 0), B)).2.2) (((p_it I t N (p_0 I t C)).2) (4 * i)) (((p_it I t N (p_0 I t C)).2) ((4 * i) + 1)) (((p_it I t N (p_0 I t C)).2) ((4 * i) + 2)) (((p_it I t N (p_0 I t C)).2) ((4 * i) + 3))))), (2, .int (nI i)), (0, .ref (m 0))]) hE dX4_execute_58 rfl hl (by decide) rfl (fun ls hl => ?_)
            refine y_iinc (v := nI (i + 1)) (lv' := [(2, .int (nI (i + 1))), (1, .int (tBy (o_does ((x_it (p_it I t N (p_0 I t C)).2 i (0, (upd (pG g (p_fin t (p_it I t N (p_0 I t C)).1)) 11 0), B)).2.2) (m_n (x_it (p_it I t N (p_0 I t C)).2 i (0, (upd (pG g (p_fin t (p_it I t N (p_0 I t C)).1)) 11 0), B)).2.2) (m_tm (x_it (p_it I t N (p_0 I t C)).2 i (0, (upd (pG g (p_fin t (p_it I t N (p_0 I t C)).1)) 11 0), B)).2.2) (m_dn (x_it (p_it I t N (p_0 I t C)).2 i (0, (upd (pG g (p_fin t (p_it I t N (p_0 I t C)).1)) 11 0), B)).2.2) (((p_it I t N (p_0 I t C)).2) (4 * i)) (((p_it I t N (p_0 I t C)).2) ((4 * i) + 1)) (((p_it I t N (p_0 I t C)).2) ((4 * i) + 2)) (((p_it I t N (p_0 I t C)).2) ((4 * i) + 3))))), (0, .ref (m 0))]) hE dX4_execute_59 hl (k := 1) rfl (nI_1 i) (by decide) rfl (fun ls hl => ?_)
            refine y_goto (tgt := 39) hE dX4_execute_62 (by decide) ?_
            exact ih39 _ _ (lv_sub hl [0, 1, 2] rfl) (hW.cast rfl rfl rfl rfl rfl rfl)
    exact K39 0 (Nat.zero_le _) _ _ (lv_sub hl [0, 1, 2] rfl) (hW.cast rfl rfl rfl rfl rfl rfl)
  · -- f 13
    exact absurd c13 (by decide)


set_option maxRecDepth 100000
set_option maxHeartbeats 1000000 in
theorem kX4_places {z : State} {D : yD} {m : Nat → Nat} {g B : Nat → Int32} {Bs : Nat → Nat → Int32} {L I C : Nat → Int32} (x : Int32) (p : Int32) (q : Int32) : yM yX4_places (ws_ yX4_places cX4_places 4 (some .int)) (rmD 8 0 0) z D [.ref (m 0), .int x, .int p, .int q] (tW z D m g B Bs L I C) eI (fun vr H => vr = tBy (o_places B x p q) ∧ tW z D m (tGo g (o_places B x p q)) (tBo B (o_places B x p q)) Bs L I C H) 0 0 (tA m) := by
  refine yM_of (own := RX4) (by decide +kernel) rfl (Nat.le_of_ble_eq_true rfl) (fun H h => h.az) fun E hE hW ls hl hin => ?_
  obtain ⟨Q, hQ⟩ : ∃ Q, Q = yEm E eI (fun vr H => vr = tBy (o_places B x p q) ∧ tW z D m (tGo g (o_places B x p q)) (tBo B (o_places B x p q)) Bs L I C H) 0 0 (tA m) := ⟨_, rfl⟩
  rw [← hQ]
  generalize (e_s E).heap = H at hW ⊢
  have hl : lv_has ls 4 [(0, .ref (m 0)), (1, .int x), (2, .int p), (3, .int q)] := hl
  rcases m_hr_or x with ⟨hx, hxi⟩ | ⟨k, hk, rfl, hx, hxi⟩
  · -- no such place
    refine y_iload_n hE dX4_places_0 rfl (lv_at hl 1 rfl) ?_
    -- call isHour ['x']
    refine y_roS (rest := []) hE cl_X4_150 (kX4_isHour x) dX4_places_1 hl (Nat.le_of_ble_eq_true rfl) rfl rfl (Nat.le_of_ble_eq_true rfl) trivial ⟨(Nat.le_of_ble_eq_true rfl), (Nat.le_of_ble_eq_true rfl)⟩ ?_
    refine y_if_ne (tgt := 9) hE dX4_places_4 (by decide) (fun c4 => ?_) (fun c4 => ?_)
    · -- t 4
      rw [zb_1] at c4
      exact absurd c4 (by simp [hx])
    · -- f 4
      rw [zb_0] at c4
      refine y_iconst (v := 1) hE dX4_places_7 (by decide) ?_
      rw [hQ]
      exact y_iret hE dX4_places_8 ⟨(by simp [tBy, tGo, tBo, o_places, c_places, hxi, c4]), hW.cast (by simp [tBy, tGo, tBo, o_places, c_places, hxi, c4]) (by simp [tBy, tGo, tBo, o_places, c_places, hxi, c4]) rfl rfl rfl rfl⟩ (Nat.le_of_ble_eq_true rfl) (Nat.le_of_ble_eq_true rfl)
  · -- a place
    have hl : lv_has ls 4 [(0, .ref (m 0)), (1, .int (nI k)), (2, .int p), (3, .int q)] := hl
    refine y_iload_n hE dX4_places_0 rfl (lv_at hl 1 rfl) ?_
    -- call isHour ['nI k']
    refine y_roS (rest := []) hE cl_X4_150 (kX4_isHour (nI k)) dX4_places_1 hl (Nat.le_of_ble_eq_true rfl) rfl rfl (Nat.le_of_ble_eq_true rfl) trivial ⟨(Nat.le_of_ble_eq_true rfl), (Nat.le_of_ble_eq_true rfl)⟩ ?_
    refine y_if_ne (tgt := 9) hE dX4_places_4 (by decide) (fun c4 => ?_) (fun c4 => ?_)
    · -- t 4
      rw [zb_1] at c4
      refine y_iload_n hE dX4_places_9 rfl (lv_at hl 2 rfl) ?_
      refine y_iconst (v := 1) hE dX4_places_10 (by decide) ?_
      refine y_bipush (v := 50) hE dX4_places_11 (by decide) ?_
      -- call in ['p', '1', '50']
      refine y_roS (rest := []) hE cl_X4_53 (kX4_in p 1 50) dX4_places_13 hl (Nat.le_of_ble_eq_true rfl) rfl rfl (Nat.le_of_ble_eq_true rfl) trivial ⟨(Nat.le_of_ble_eq_true rfl), (Nat.le_of_ble_eq_true rfl)⟩ ?_
      refine y_if_eq (tgt := 30) hE dX4_places_16 (by decide) (fun c16 => ?_) (fun c16 => ?_)
      · -- t 16
        rw [zb_0] at c16
        refine y_iconst (v := 2) hE dX4_places_30 (by decide) ?_
        rw [hQ]
        exact y_iret hE dX4_places_31 ⟨(by simp [tBy, tGo, tBo, o_places, c_places, hxi, c4, c16]), hW.cast (by simp [tBy, tGo, tBo, o_places, c_places, hxi, c4, c16]) (by simp [tBy, tGo, tBo, o_places, c_places, hxi, c4, c16]) rfl rfl rfl rfl⟩ (Nat.le_of_ble_eq_true rfl) (Nat.le_of_ble_eq_true rfl)
      · -- f 16
        rw [zb_1] at c16
        refine y_iload_n hE dX4_places_19 rfl (lv_at hl 3 rfl) ?_
        refine y_iconst (v := 1) hE dX4_places_20 (by decide) ?_
        refine y_sipush (v := 500) hE dX4_places_21 (by decide) ?_
        -- call in ['q', '1', '500']
        refine y_roS (rest := []) hE cl_X4_53 (kX4_in q 1 500) dX4_places_24 hl (Nat.le_of_ble_eq_true rfl) rfl rfl (Nat.le_of_ble_eq_true rfl) trivial ⟨(Nat.le_of_ble_eq_true rfl), (Nat.le_of_ble_eq_true rfl)⟩ ?_
        refine y_if_ne (tgt := 32) hE dX4_places_27 (by decide) (fun c27 => ?_) (fun c27 => ?_)
        · -- t 27
          rw [zb_1] at c27
          refine y_aload_n hE dX4_places_32 rfl (lv_at hl 0 rfl) ?_
          refine y_aload_n hE dX4_places_33 rfl (lv_at hl 0 rfl) ?_
          refine y_iload_n hE dX4_places_34 rfl (lv_at hl 1 rfl) ?_
          -- call price ['k']
          refine y_roV (rest := [.ref (m 0)]) hE cl_X4_147 (kX4_price k (by omega)) dX4_places_35 hl (Nat.le_of_ble_eq_true rfl) (y_recv hE rfl hW.1) rfl rfl (Nat.le_of_ble_eq_true rfl) hW ⟨(Nat.le_of_ble_eq_true rfl), (Nat.le_of_ble_eq_true rfl)⟩ ?_
          refine y_if_le (tgt := 45) hE dX4_places_38 (by decide) (fun c38 => ?_) (fun c38 => ?_)
          · -- t 38
            have n38 := Int32.not_lt.mpr c38
            refine y_iconst (v := 0) hE dX4_places_45 (by decide) ?_
            refine y_bipush (v := 8) hE dX4_places_46 (by decide) ?_
            refine y_aload_n hE dX4_places_48 rfl (lv_at hl 0 rfl) ?_
            refine y_iload_n hE dX4_places_49 rfl (lv_at hl 1 rfl) ?_
            -- call price ['k']
            refine y_roV (rest := [.int 8, .int 0, .ref (m 0)]) hE cl_X4_147 (kX4_price k (by omega)) dX4_places_50 hl (Nat.le_of_ble_eq_true rfl) (y_recv hE rfl hW.1) rfl rfl (Nat.le_of_ble_eq_true rfl) hW ⟨(Nat.le_of_ble_eq_true rfl), (Nat.le_of_ble_eq_true rfl)⟩ ?_
            -- call rejects ['false', '8', 'm_price B k']
            refine y_muV (rest := []) hE cl_X4_84 (kX4_rejects false 8 (m_price B k)) dX4_places_53 hl (Nat.le_of_ble_eq_true rfl) (y_recv hE rfl hW.1) rfl rfl (Nat.le_of_ble_eq_true rfl) hW (fun _ h => h) ⟨(Nat.le_of_ble_eq_true rfl), (Nat.le_of_ble_eq_true rfl)⟩ (fun vr H hW _ _ => ?_)
            obtain ⟨hr, hW⟩ := hW
            subst hr
            have hW : tW z D m g B Bs L I C H := hW
            refine y_st (st' := [.int (zb false)]) rfl ?_
            refine y_if_eq (tgt := 61) hE dX4_places_56 (by decide) (fun c56 => ?_) (fun c56 => ?_)
            · -- t 56
              rw [zb_0] at c56
              refine y_aload_n hE dX4_places_61 rfl (lv_at hl 0 rfl) ?_
              refine t_get (v := .ref (m 1)) hE 1 (by decide) q1977 rfl hW rfl dX4_places_62 ?_
              refine y_bipush (v := 9) hE dX4_places_65 (by decide) ?_
              refine y_iconst (v := 2) hE dX4_places_67 (by decide) ?_
              refine y_iload_n hE dX4_places_68 rfl (lv_at hl 1 rfl) ?_
              refine y_imul hE dX4_places_69 ?_
              refine y_iadd hE dX4_places_70 ?_
              refine y_iload_n hE dX4_places_71 rfl (lv_at hl 2 rfl) ?_
              refine t_astB (j := 9 + 2 * k) hE hW (by show nI 9 + nI 2 * nI k = _; rw [pk_mul, nI_add]) (by omega) dX4_places_72 (fun H hW => ?_)
              refine y_aload_n hE dX4_places_73 rfl (lv_at hl 0 rfl) ?_
              refine t_get (v := .ref (m 1)) hE 1 (by decide) q1977 rfl hW rfl dX4_places_74 ?_
              refine y_bipush (v := 9) hE dX4_places_77 (by decide) ?_
              refine y_iconst (v := 2) hE dX4_places_79 (by decide) ?_
              refine y_iload_n hE dX4_places_80 rfl (lv_at hl 1 rfl) ?_
              refine y_imul hE dX4_places_81 ?_
              refine y_iadd hE dX4_places_82 ?_
              refine y_iconst (v := 1) hE dX4_places_83 (by decide) ?_
              refine y_iadd hE dX4_places_84 ?_
              refine y_iload_n hE dX4_places_85 rfl (lv_at hl 3 rfl) ?_
              refine t_astB (j := 9 + 2 * k + 1) hE hW (by show nI 9 + nI 2 * nI k + nI 1 = _; rw [pk_mul, nI_add, nI_add]) (by omega) dX4_places_86 (fun H hW => ?_)
              refine y_aload_n hE dX4_places_87 rfl (lv_at hl 0 rfl) ?_
              refine y_aload_n hE dX4_places_88 rfl (lv_at hl 0 rfl) ?_
              -- call bids []
              refine y_roV (rest := [.ref (m 0)]) hE cl_X4_153 kX4_bids dX4_places_89 hl (Nat.le_of_ble_eq_true rfl) (y_recv hE rfl hW.1) rfl rfl (Nat.le_of_ble_eq_true rfl) hW ⟨(Nat.le_of_ble_eq_true rfl), (Nat.le_of_ble_eq_true rfl)⟩ ?_
              refine t_put (g' := upd g 4 (m_bids (upd (upd B (9 + 2 * k) p) (9 + 2 * k + 1) q))) hE hW 4 (by decide) q1980 rfl rfl rfl rfl rfl dX4_places_92 (fun H hW => ?_)
              refine y_iconst (v := 0) hE dX4_places_95 (by decide) ?_
              rw [hQ]
              exact y_iret hE dX4_places_96 ⟨(by simp [tBy, tGo, tBo, o_places, c_places, hxi, c4, c16, c27, c38, n38, c56]), hW.cast (by simp [tBy, tGo, tBo, o_places, c_places, hxi, c4, c16, c27, c38, n38, c56]) (by simp [tBy, tGo, tBo, o_places, c_places, hxi, c4, c16, c27, c38, n38, c56]) rfl rfl rfl rfl⟩ (Nat.le_of_ble_eq_true rfl) (Nat.le_of_ble_eq_true rfl)
            · -- f 56
              rw [zb_1] at c56
              exact absurd c56 (by decide)
          · -- f 38
            have n38 := Int32.not_le.mp c38
            refine y_iconst (v := 1) hE dX4_places_41 (by decide) ?_
            refine y_goto (tgt := 46) hE dX4_places_42 (by decide) ?_
            refine y_bipush (v := 8) hE dX4_places_46 (by decide) ?_
            refine y_aload_n hE dX4_places_48 rfl (lv_at hl 0 rfl) ?_
            refine y_iload_n hE dX4_places_49 rfl (lv_at hl 1 rfl) ?_
            -- call price ['k']
            refine y_roV (rest := [.int 8, .int 1, .ref (m 0)]) hE cl_X4_147 (kX4_price k (by omega)) dX4_places_50 hl (Nat.le_of_ble_eq_true rfl) (y_recv hE rfl hW.1) rfl rfl (Nat.le_of_ble_eq_true rfl) hW ⟨(Nat.le_of_ble_eq_true rfl), (Nat.le_of_ble_eq_true rfl)⟩ ?_
            -- call rejects ['true', '8', 'm_price B k']
            refine y_muV (rest := []) hE cl_X4_84 (kX4_rejects true 8 (m_price B k)) dX4_places_53 hl (Nat.le_of_ble_eq_true rfl) (y_recv hE rfl hW.1) rfl rfl (Nat.le_of_ble_eq_true rfl) hW (fun _ h => h) ⟨(Nat.le_of_ble_eq_true rfl), (Nat.le_of_ble_eq_true rfl)⟩ (fun vr H hW _ _ => ?_)
            obtain ⟨hr, hW⟩ := hW
            subst hr
            have hW : tW z D m (rej g 8 (m_price B k)) B Bs L I C H := hW
            refine y_st (st' := [.int (zb true)]) rfl ?_
            refine y_if_eq (tgt := 61) hE dX4_places_56 (by decide) (fun c56 => ?_) (fun c56 => ?_)
            · -- t 56
              rw [zb_0] at c56
              exact absurd c56 (by decide)
            · -- f 56
              rw [zb_1] at c56
              refine y_iconst (v := 3) hE dX4_places_59 (by decide) ?_
              rw [hQ]
              exact y_iret hE dX4_places_60 ⟨(by simp [tBy, tGo, tBo, o_places, c_places, hxi, c4, c16, c27, c38, n38, c56]), hW.cast (by simp [tBy, tGo, tBo, o_places, c_places, hxi, c4, c16, c27, c38, n38, c56]) (by simp [tBy, tGo, tBo, o_places, c_places, hxi, c4, c16, c27, c38, n38, c56]) rfl rfl rfl rfl⟩ (Nat.le_of_ble_eq_true rfl) (Nat.le_of_ble_eq_true rfl)
        · -- f 27
          rw [zb_0] at c27
          refine y_iconst (v := 2) hE dX4_places_30 (by decide) ?_
          rw [hQ]
          exact y_iret hE dX4_places_31 ⟨(by simp [tBy, tGo, tBo, o_places, c_places, hxi, c4, c16, c27]), hW.cast (by simp [tBy, tGo, tBo, o_places, c_places, hxi, c4, c16, c27]) (by simp [tBy, tGo, tBo, o_places, c_places, hxi, c4, c16, c27]) rfl rfl rfl rfl⟩ (Nat.le_of_ble_eq_true rfl) (Nat.le_of_ble_eq_true rfl)
    · -- f 4
      rw [zb_0] at c4
      exact absurd c4 (by simp [hx])

set_option maxHeartbeats 1000000 in
theorem kX4_withdraws {z : State} {D : yD} {m : Nat → Nat} {g B : Nat → Int32} {Bs : Nat → Nat → Int32} {L I C : Nat → Int32} (x : Int32) : yM yX4_withdraws (ws_ yX4_withdraws cX4_withdraws 2 (some .int)) (rmD 8 0 0) z D [.ref (m 0), .int x] (tW z D m g B Bs L I C) eI (fun vr H => vr = tBy (o_withdraws B x) ∧ tW z D m (tGo g (o_withdraws B x)) (tBo B (o_withdraws B x)) Bs L I C H) 0 0 (tA m) := by
  refine yM_of (own := RX4) (by decide +kernel) rfl (Nat.le_of_ble_eq_true rfl) (fun H h => h.az) fun E hE hW ls hl hin => ?_
  obtain ⟨Q, hQ⟩ : ∃ Q, Q = yEm E eI (fun vr H => vr = tBy (o_withdraws B x) ∧ tW z D m (tGo g (o_withdraws B x)) (tBo B (o_withdraws B x)) Bs L I C H) 0 0 (tA m) := ⟨_, rfl⟩
  rw [← hQ]
  generalize (e_s E).heap = H at hW ⊢
  have hl : lv_has ls 2 [(0, .ref (m 0)), (1, .int x)] := hl
  rcases m_hr_or x with ⟨hx, hxi⟩ | ⟨k, hk, rfl, hx, hxi⟩
  · -- no such place
    refine y_iload_n hE dX4_withdraws_0 rfl (lv_at hl 1 rfl) ?_
    -- call isHour ['x']
    refine y_roS (rest := []) hE cl_X4_150 (kX4_isHour x) dX4_withdraws_1 hl (Nat.le_of_ble_eq_true rfl) rfl rfl (Nat.le_of_ble_eq_true rfl) trivial ⟨(Nat.le_of_ble_eq_true rfl), (Nat.le_of_ble_eq_true rfl)⟩ ?_
    refine y_if_ne (tgt := 9) hE dX4_withdraws_4 (by decide) (fun c4 => ?_) (fun c4 => ?_)
    · -- t 4
      rw [zb_1] at c4
      exact absurd c4 (by simp [hx])
    · -- f 4
      rw [zb_0] at c4
      refine y_iconst (v := 1) hE dX4_withdraws_7 (by decide) ?_
      rw [hQ]
      exact y_iret hE dX4_withdraws_8 ⟨(by simp [tBy, tGo, tBo, o_withdraws, c_withdraws, hxi, c4]), hW.cast (by simp [tBy, tGo, tBo, o_withdraws, c_withdraws, hxi, c4]) (by simp [tBy, tGo, tBo, o_withdraws, c_withdraws, hxi, c4]) rfl rfl rfl rfl⟩ (Nat.le_of_ble_eq_true rfl) (Nat.le_of_ble_eq_true rfl)
  · -- a place
    have hl : lv_has ls 2 [(0, .ref (m 0)), (1, .int (nI k))] := hl
    refine y_iload_n hE dX4_withdraws_0 rfl (lv_at hl 1 rfl) ?_
    -- call isHour ['nI k']
    refine y_roS (rest := []) hE cl_X4_150 (kX4_isHour (nI k)) dX4_withdraws_1 hl (Nat.le_of_ble_eq_true rfl) rfl rfl (Nat.le_of_ble_eq_true rfl) trivial ⟨(Nat.le_of_ble_eq_true rfl), (Nat.le_of_ble_eq_true rfl)⟩ ?_
    refine y_if_ne (tgt := 9) hE dX4_withdraws_4 (by decide) (fun c4 => ?_) (fun c4 => ?_)
    · -- t 4
      rw [zb_1] at c4
      refine y_aload_n hE dX4_withdraws_9 rfl (lv_at hl 0 rfl) ?_
      refine y_aload_n hE dX4_withdraws_10 rfl (lv_at hl 0 rfl) ?_
      refine y_iload_n hE dX4_withdraws_11 rfl (lv_at hl 1 rfl) ?_
      -- call price ['k']
      refine y_roV (rest := [.ref (m 0)]) hE cl_X4_147 (kX4_price k (by omega)) dX4_withdraws_12 hl (Nat.le_of_ble_eq_true rfl) (y_recv hE rfl hW.1) rfl rfl (Nat.le_of_ble_eq_true rfl) hW ⟨(Nat.le_of_ble_eq_true rfl), (Nat.le_of_ble_eq_true rfl)⟩ ?_
      refine y_if_ne (tgt := 22) hE dX4_withdraws_15 (by decide) (fun c15 => ?_) (fun c15 => ?_)
      · -- t 15
        refine y_iconst (v := 0) hE dX4_withdraws_22 (by decide) ?_
        refine y_bipush (v := 9) hE dX4_withdraws_23 (by decide) ?_
        refine y_aload_n hE dX4_withdraws_25 rfl (lv_at hl 0 rfl) ?_
        -- call bids []
        refine y_roV (rest := [.int 9, .int 0, .ref (m 0)]) hE cl_X4_153 kX4_bids dX4_withdraws_26 hl (Nat.le_of_ble_eq_true rfl) (y_recv hE rfl hW.1) rfl rfl (Nat.le_of_ble_eq_true rfl) hW ⟨(Nat.le_of_ble_eq_true rfl), (Nat.le_of_ble_eq_true rfl)⟩ ?_
        -- call rejects ['false', '9', 'm_bids B']
        refine y_muV (rest := []) hE cl_X4_84 (kX4_rejects false 9 (m_bids B)) dX4_withdraws_29 hl (Nat.le_of_ble_eq_true rfl) (y_recv hE rfl hW.1) rfl rfl (Nat.le_of_ble_eq_true rfl) hW (fun _ h => h) ⟨(Nat.le_of_ble_eq_true rfl), (Nat.le_of_ble_eq_true rfl)⟩ (fun vr H hW _ _ => ?_)
        obtain ⟨hr, hW⟩ := hW
        subst hr
        have hW : tW z D m g B Bs L I C H := hW
        refine y_st (st' := [.int (zb false)]) rfl ?_
        refine y_if_eq (tgt := 37) hE dX4_withdraws_32 (by decide) (fun c32 => ?_) (fun c32 => ?_)
        · -- t 32
          rw [zb_0] at c32
          refine y_aload_n hE dX4_withdraws_37 rfl (lv_at hl 0 rfl) ?_
          refine y_aload_n hE dX4_withdraws_38 rfl (lv_at hl 0 rfl) ?_
          refine y_iload_n hE dX4_withdraws_39 rfl (lv_at hl 1 rfl) ?_
          -- call quantity ['k']
          refine y_roV (rest := [.ref (m 0)]) hE cl_X4_159 (kX4_quantity k (by omega)) dX4_withdraws_40 hl (Nat.le_of_ble_eq_true rfl) (y_recv hE rfl hW.1) rfl rfl (Nat.le_of_ble_eq_true rfl) hW ⟨(Nat.le_of_ble_eq_true rfl), (Nat.le_of_ble_eq_true rfl)⟩ ?_
          refine t_put (g' := upd g 4 (m_quan B k)) hE hW 4 (by decide) q1980 rfl rfl rfl rfl rfl dX4_withdraws_43 (fun H hW => ?_)
          refine y_aload_n hE dX4_withdraws_46 rfl (lv_at hl 0 rfl) ?_
          refine t_get (v := .ref (m 1)) hE 1 (by decide) q1977 rfl hW rfl dX4_withdraws_47 ?_
          refine y_bipush (v := 9) hE dX4_withdraws_50 (by decide) ?_
          refine y_iconst (v := 2) hE dX4_withdraws_52 (by decide) ?_
          refine y_iload_n hE dX4_withdraws_53 rfl (lv_at hl 1 rfl) ?_
          refine y_imul hE dX4_withdraws_54 ?_
          refine y_iadd hE dX4_withdraws_55 ?_
          refine y_iconst (v := 0) hE dX4_withdraws_56 (by decide) ?_
          refine t_astB (j := 9 + 2 * k) hE hW (by show nI 9 + nI 2 * nI k = _; rw [pk_mul, nI_add]) (by omega) dX4_withdraws_57 (fun H hW => ?_)
          refine y_aload_n hE dX4_withdraws_58 rfl (lv_at hl 0 rfl) ?_
          refine t_get (v := .ref (m 1)) hE 1 (by decide) q1977 rfl hW rfl dX4_withdraws_59 ?_
          refine y_bipush (v := 9) hE dX4_withdraws_62 (by decide) ?_
          refine y_iconst (v := 2) hE dX4_withdraws_64 (by decide) ?_
          refine y_iload_n hE dX4_withdraws_65 rfl (lv_at hl 1 rfl) ?_
          refine y_imul hE dX4_withdraws_66 ?_
          refine y_iadd hE dX4_withdraws_67 ?_
          refine y_iconst (v := 1) hE dX4_withdraws_68 (by decide) ?_
          refine y_iadd hE dX4_withdraws_69 ?_
          refine y_iconst (v := 0) hE dX4_withdraws_70 (by decide) ?_
          refine t_astB (j := 9 + 2 * k + 1) hE hW (by show nI 9 + nI 2 * nI k + nI 1 = _; rw [pk_mul, nI_add, nI_add]) (by omega) dX4_withdraws_71 (fun H hW => ?_)
          refine y_iconst (v := 0) hE dX4_withdraws_72 (by decide) ?_
          rw [hQ]
          exact y_iret hE dX4_withdraws_73 ⟨(by simp [tBy, tGo, tBo, o_withdraws, c_withdraws, hxi, c4, c15, c32]), hW.cast (by simp [tBy, tGo, tBo, o_withdraws, c_withdraws, hxi, c4, c15, c32]) (by simp [tBy, tGo, tBo, o_withdraws, c_withdraws, hxi, c4, c15, c32]) rfl rfl rfl rfl⟩ (Nat.le_of_ble_eq_true rfl) (Nat.le_of_ble_eq_true rfl)
        · -- f 32
          rw [zb_1] at c32
          exact absurd c32 (by decide)
      · -- f 15
        refine y_iconst (v := 1) hE dX4_withdraws_18 (by decide) ?_
        refine y_goto (tgt := 23) hE dX4_withdraws_19 (by decide) ?_
        refine y_bipush (v := 9) hE dX4_withdraws_23 (by decide) ?_
        refine y_aload_n hE dX4_withdraws_25 rfl (lv_at hl 0 rfl) ?_
        -- call bids []
        refine y_roV (rest := [.int 9, .int 1, .ref (m 0)]) hE cl_X4_153 kX4_bids dX4_withdraws_26 hl (Nat.le_of_ble_eq_true rfl) (y_recv hE rfl hW.1) rfl rfl (Nat.le_of_ble_eq_true rfl) hW ⟨(Nat.le_of_ble_eq_true rfl), (Nat.le_of_ble_eq_true rfl)⟩ ?_
        -- call rejects ['true', '9', 'm_bids B']
        refine y_muV (rest := []) hE cl_X4_84 (kX4_rejects true 9 (m_bids B)) dX4_withdraws_29 hl (Nat.le_of_ble_eq_true rfl) (y_recv hE rfl hW.1) rfl rfl (Nat.le_of_ble_eq_true rfl) hW (fun _ h => h) ⟨(Nat.le_of_ble_eq_true rfl), (Nat.le_of_ble_eq_true rfl)⟩ (fun vr H hW _ _ => ?_)
        obtain ⟨hr, hW⟩ := hW
        subst hr
        have hW : tW z D m (rej g 9 (m_bids B)) B Bs L I C H := hW
        refine y_st (st' := [.int (zb true)]) rfl ?_
        refine y_if_eq (tgt := 37) hE dX4_withdraws_32 (by decide) (fun c32 => ?_) (fun c32 => ?_)
        · -- t 32
          rw [zb_0] at c32
          exact absurd c32 (by decide)
        · -- f 32
          rw [zb_1] at c32
          refine y_iconst (v := 3) hE dX4_withdraws_35 (by decide) ?_
          rw [hQ]
          exact y_iret hE dX4_withdraws_36 ⟨(by simp [tBy, tGo, tBo, o_withdraws, c_withdraws, hxi, c4, c15, c32]), hW.cast (by simp [tBy, tGo, tBo, o_withdraws, c_withdraws, hxi, c4, c15, c32]) (by simp [tBy, tGo, tBo, o_withdraws, c_withdraws, hxi, c4, c15, c32]) rfl rfl rfl rfl⟩ (Nat.le_of_ble_eq_true rfl) (Nat.le_of_ble_eq_true rfl)
    · -- f 4
      rw [zb_0] at c4
      exact absurd c4 (by simp [hx])

set_option maxHeartbeats 1000000 in
theorem kX4_dispatches {z : State} {D : yD} {m : Nat → Nat} {g B : Nat → Int32} {Bs : Nat → Nat → Int32} {L I C : Nat → Int32} (n : Nat) (q : Nat) (N : Nat) (hn : B 0 = nI n) (hN : n ≤ 12) (hG : B 3 = nI q) (hq : q < 1000) (hD1 : ∀ i : Nat, i < N → 0 < m_exc (m_cuts B n i) n) (hD2 : ¬ 0 < m_exc (m_cuts B n N) n) : yM yX4_dispatches (ws_ yX4_dispatches cX4_dispatches 4 (some .int)) (rmD 8 0 0) z D [.ref (m 0)] (tW z D m g B Bs L I C) eI (fun vr H => vr = tBy (o_disp B n N) ∧ tW z D m (tGo g (o_disp B n N)) (tBo B (o_disp B n N)) Bs L I C H) 0 0 (tA m) := by
  refine yM_of (own := RX4) (by decide +kernel) rfl (Nat.le_of_ble_eq_true rfl) (fun H h => h.az) fun E hE hW ls hl hin => ?_
  obtain ⟨Q, hQ⟩ : ∃ Q, Q = yEm E eI (fun vr H => vr = tBy (o_disp B n N) ∧ tW z D m (tGo g (o_disp B n N)) (tBo B (o_disp B n N)) Bs L I C H) 0 0 (tA m) := ⟨_, rfl⟩
  rw [← hQ]
  generalize (e_s E).heap = H at hW ⊢
  have hl : lv_has ls 4 [(0, .ref (m 0))] := hl
  refine y_aload_n hE dX4_dispatches_0 rfl (lv_at hl 0 rfl) ?_
  refine y_iconst (v := 0) hE dX4_dispatches_1 (by decide) ?_
  refine t_put (g' := upd g 4 0) hE hW 4 (by decide) q1980 rfl rfl rfl rfl rfl dX4_dispatches_2 (fun H hW => ?_)
  refine y_aload_n hE dX4_dispatches_5 rfl (lv_at hl 0 rfl) ?_
  -- call total []
  refine y_roV (rest := []) hE cl_X4_129 (kX4_total n (by repeat (first | exact hn | rw [upd_ne (by omega)] | rw [m_cuts_lo _ _ (by omega)] | rw [m_ticks_lo _ (by omega)] | rw [m_rels_lo _ (by omega)] | rw [m_hours_lo _ _ _ (by omega)] | rw [m_pay_lo _ _ _ (by omega)] | rw [tGo_2])) hN) dX4_dispatches_6 hl (Nat.le_of_ble_eq_true rfl) (y_recv hE rfl hW.1) rfl rfl (Nat.le_of_ble_eq_true rfl) hW ⟨(Nat.le_of_ble_eq_true rfl), (Nat.le_of_ble_eq_true rfl)⟩ ?_
  refine y_aload_n hE dX4_dispatches_9 rfl (lv_at hl 0 rfl) ?_
  refine t_get (v := .ref (m 1)) hE 1 (by decide) q1977 rfl hW rfl dX4_dispatches_10 ?_
  refine y_iconst (v := 3) hE dX4_dispatches_13 (by decide) ?_
  refine t_aldB (j := 3) (v := B 3) hE hW (rfl) (by decide) rfl dX4_dispatches_14 ?_
  refine y_isub hE dX4_dispatches_15 ?_
  refine y_istore_n (lv' := [(1, .int ((m_total B n) - (B 3))), (0, .ref (m 0))]) hE dX4_dispatches_16 rfl hl (by decide) rfl (fun ls hl => ?_)
  have K17 : ∀ i : Nat, i ≤ N → ∀ (H : Heap) (ls : Array Slot), lv_has ls 4 [(1, .int (m_exc (m_cuts B n i) n)), (0, .ref (m 0))] → tW z D m (upd g 4 (nI i)) (m_cuts B n i) Bs L I C H → yY E (tA m) H 0 0 Q 17 ls [] := by
    refine y_loop ?_ ?_
    · -- the end of the loop at 17
      intro H ls hl hW 
      refine y_iload_n hE dX4_dispatches_17 rfl (lv_at hl 0 rfl) ?_
      refine y_if_le (tgt := 110) hE dX4_dispatches_18 (by decide) (fun c18 => ?_) (fun c18 => ?_)
      · -- t 18
        have n18 := Int32.not_lt.mpr c18
        refine y_iconst (v := 0) hE dX4_dispatches_110 (by decide) ?_
        rw [hQ]
        exact y_iret hE dX4_dispatches_111 ⟨rfl, hW.cast rfl rfl rfl rfl rfl rfl⟩ (Nat.le_of_ble_eq_true rfl) (Nat.le_of_ble_eq_true rfl)
      · -- f 18
        exact absurd (Int32.not_le.mp c18) hD2
    · -- a round of the loop at 17
      intro i hi ih17 H ls hl hW 
      refine y_iload_n hE dX4_dispatches_17 rfl (lv_at hl 0 rfl) ?_
      refine y_if_le (tgt := 110) hE dX4_dispatches_18 (by decide) (fun c18 => ?_) (fun c18 => ?_)
      · -- t 18
        exact absurd (hD1 i hi) (Int32.not_lt.mpr c18)
      · -- f 18
        have n18 := Int32.not_le.mp c18
        refine y_iconst (v := 0) hE dX4_dispatches_21 (by decide) ?_
        refine y_set1 (w := nI (m_big (m_cuts B n i) n 1)) (by rw [m_big_1]; rfl) ?_
        refine y_istore_n (lv' := [(2, .int (nI (m_big (m_cuts B n i) n 1))), (1, .int (m_exc (m_cuts B n i) n)), (0, .ref (m 0))]) hE dX4_dispatches_22 rfl hl (by decide) rfl (fun ls hl => ?_)
        have hpos : 0 < n := m_exc_n ((m_cuts_lo B n (by omega) i).trans hG) hq (hD1 i hi)
        have hbg := m_big_lt (m_cuts B n i) n n
        refine y_iconst (v := 1) hE dX4_dispatches_23 (by decide) ?_
        refine y_istore_n (lv' := [(3, .int 1), (2, .int (nI (m_big (m_cuts B n i) n 1))), (1, .int (m_exc (m_cuts B n i) n)), (0, .ref (m 0))]) hE dX4_dispatches_24 rfl hl (by decide) rfl (fun ls hl => ?_)
        have K25 : ∀ k : Nat, k ≤ n → ∀ (H : Heap) (ls : Array Slot), lv_has ls 4 [(3, .int (nI k)), (2, .int (nI (m_big (m_cuts B n i) n k))), (0, .ref (m 0)), (1, .int (m_exc (m_cuts B n i) n))] → tW z D m (upd g 4 (nI i)) (m_cuts B n i) Bs L I C H → (1 ≤ k) → yY E (tA m) H 0 0 Q 25 ls [] := by
          refine y_loop ?_ ?_
          · -- the end of the loop at 25
            intro H ls hl hW hk1
            refine y_iload_n hE dX4_dispatches_25 rfl (lv_at hl 0 rfl) ?_
            refine y_aload_n hE dX4_dispatches_26 rfl (lv_at hl 2 rfl) ?_
            refine t_get (v := .ref (m 1)) hE 1 (by decide) q1977 rfl hW rfl dX4_dispatches_27 ?_
            refine y_iconst (v := 0) hE dX4_dispatches_30 (by decide) ?_
            refine t_aldB (j := 0) (v := (m_cuts B n i) 0) hE hW (rfl) (by decide) rfl dX4_dispatches_31 ?_
            refine y_set1 (w := nI n) ((m_cuts_lo _ _ (by omega) _).trans hn) ?_
            refine y_icmp_ge (tgt := 60) hE dX4_dispatches_32 (by decide) (fun c32 => ?_) (fun c32 => ?_)
            · -- t 32
              have n32 := Int32.not_lt.mpr c32
              refine y_aload_n hE dX4_dispatches_60 rfl (lv_at hl 2 rfl) ?_
              refine y_iload_n hE dX4_dispatches_61 rfl (lv_at hl 1 rfl) ?_
              -- call output ['(m_big (m_cuts B n i) n n)']
              refine y_roV (rest := []) hE cl_X4_77 (kX4_output n (m_big (m_cuts B n i) n n) (by repeat (first | exact hn | rw [upd_ne (by omega)] | rw [m_cuts_lo _ _ (by omega)] | rw [m_ticks_lo _ (by omega)] | rw [m_rels_lo _ (by omega)] | rw [m_hours_lo _ _ _ (by omega)] | rw [m_pay_lo _ _ _ (by omega)] | rw [tGo_2])) hN (by omega)) dX4_dispatches_62 hl (Nat.le_of_ble_eq_true rfl) (y_recv hE rfl hW.1) rfl rfl (Nat.le_of_ble_eq_true rfl) hW ⟨(Nat.le_of_ble_eq_true rfl), (Nat.le_of_ble_eq_true rfl)⟩ ?_
              refine y_iload_n hE dX4_dispatches_65 rfl (lv_at hl 3 rfl) ?_
              refine y_isub hE dX4_dispatches_66 ?_
              refine y_istore_n (lv' := [(3, .int ((m_out (m_cuts B n i) n (m_big (m_cuts B n i) n n)) - (m_exc (m_cuts B n i) n))), (2, .int (nI (m_big (m_cuts B n i) n n))), (0, .ref (m 0)), (1, .int (m_exc (m_cuts B n i) n))]) hE dX4_dispatches_67 rfl hl (by decide) rfl (fun ls hl => ?_)
              refine y_aload_n hE dX4_dispatches_68 rfl (lv_at hl 2 rfl) ?_
              refine y_iload_n hE dX4_dispatches_69 rfl (lv_at hl 1 rfl) ?_
              refine y_iconst (v := 5) hE dX4_dispatches_70 (by decide) ?_
              refine y_iload_n hE dX4_dispatches_71 rfl (lv_at hl 0 rfl) ?_
              have K82 : ∀ ls : Array Slot, lv_has ls 4 [(3, .int ((m_out (m_cuts B n i) n (m_big (m_cuts B n i) n n)) - (m_exc (m_cuts B n i) n))), (2, .int (nI (m_big (m_cuts B n i) n n))), (0, .ref (m 0)), (1, .int (m_exc (m_cuts B n i) n))] → yY E (tA m) H 0 0 Q 82 ls [.int (if m_out (m_cuts B n i) n (m_big (m_cuts B n i) n n) - (m_total (m_cuts B n i) n - (m_cuts B n i) 3) < 0 then 1 else m_out (m_cuts B n i) n (m_big (m_cuts B n i) n n) - (m_total (m_cuts B n i) n - (m_cuts B n i) 3) + 1), .int 5, .int (nI (m_big (m_cuts B n i) n n)), .ref (m 0)] := by
                intro ls hl
                -- call set ['(m_big (m_cuts B n i) n n)', '5', '(if m_out (m_cuts B n i) n (m_big (m_cuts B n i) n n) - (m_total (m_cuts B n i) n - (m_cuts B n i) 3) < 0 then 1 else m_out (m_cuts B n i) n (m_big (m_cuts B n i) n n) - (m_total (m_cuts B n i) n - (m_cuts B n i) 3) + 1)']
                refine y_muV (rest := []) hE cl_X4_88 (kX4_set (m_big (m_cuts B n i) n n) 5 (if m_out (m_cuts B n i) n (m_big (m_cuts B n i) n n) - (m_total (m_cuts B n i) n - (m_cuts B n i) 3) < 0 then 1 else m_out (m_cuts B n i) n (m_big (m_cuts B n i) n n) - (m_total (m_cuts B n i) n - (m_cuts B n i) 3) + 1) (by omega) (by omega)) dX4_dispatches_82 hl (Nat.le_of_ble_eq_true rfl) (y_recv hE rfl hW.1) rfl rfl (Nat.le_of_ble_eq_true rfl) hW (fun _ h => h) ⟨(Nat.le_of_ble_eq_true rfl), (Nat.le_of_ble_eq_true rfl)⟩ (fun vr H hW _ _ => ?_)
                have hW : tW z D m (upd g 4 (nI i)) (upd (m_cuts B n i) (57 + 6 * (m_big (m_cuts B n i) n n) + 5) (if m_out (m_cuts B n i) n (m_big (m_cuts B n i) n n) - (m_total (m_cuts B n i) n - (m_cuts B n i) 3) < 0 then 1 else m_out (m_cuts B n i) n (m_big (m_cuts B n i) n n) - (m_total (m_cuts B n i) n - (m_cuts B n i) 3) + 1)) Bs L I C H := hW
                refine y_st (st' := []) rfl ?_
                refine y_aload_n hE dX4_dispatches_85 rfl (lv_at hl 2 rfl) ?_
                refine y_dup hE dX4_dispatches_86 rfl ?_
                refine t_get (v := .int (nI i)) hE 4 (by decide) q1980 rfl hW rfl dX4_dispatches_87 ?_
                refine y_iconst (v := 1) hE dX4_dispatches_90 (by decide) ?_
                refine y_iadd hE dX4_dispatches_91 ?_
                refine y_set1 (w := nI (i + 1)) (nI_1 i) ?_
                refine t_put (g' := upd (upd g 4 (nI i)) 4 (nI (i + 1))) hE hW 4 (by decide) q1980 rfl rfl rfl rfl rfl dX4_dispatches_92 (fun H hW => ?_)
                refine y_aload_n hE dX4_dispatches_95 rfl (lv_at hl 2 rfl) ?_
                -- call total []
                refine y_roV (rest := []) hE cl_X4_129 (kX4_total n (by repeat (first | exact hn | rw [upd_ne (by omega)] | rw [m_cuts_lo _ _ (by omega)] | rw [m_ticks_lo _ (by omega)] | rw [m_rels_lo _ (by omega)] | rw [m_hours_lo _ _ _ (by omega)] | rw [m_pay_lo _ _ _ (by omega)] | rw [tGo_2])) hN) dX4_dispatches_96 hl (Nat.le_of_ble_eq_true rfl) (y_recv hE rfl hW.1) rfl rfl (Nat.le_of_ble_eq_true rfl) hW ⟨(Nat.le_of_ble_eq_true rfl), (Nat.le_of_ble_eq_true rfl)⟩ ?_
                refine y_aload_n hE dX4_dispatches_99 rfl (lv_at hl 2 rfl) ?_
                refine t_get (v := .ref (m 1)) hE 1 (by decide) q1977 rfl hW rfl dX4_dispatches_100 ?_
                refine y_iconst (v := 3) hE dX4_dispatches_103 (by decide) ?_
                refine t_aldB (j := 3) (v := (upd (m_cuts B n i) (57 + 6 * (m_big (m_cuts B n i) n n) + 5) (if m_out (m_cuts B n i) n (m_big (m_cuts B n i) n n) - (m_total (m_cuts B n i) n - (m_cuts B n i) 3) < 0 then 1 else m_out (m_cuts B n i) n (m_big (m_cuts B n i) n n) - (m_total (m_cuts B n i) n - (m_cuts B n i) 3) + 1)) 3) hE hW (rfl) (by decide) rfl dX4_dispatches_104 ?_
                refine y_isub hE dX4_dispatches_105 ?_
                refine y_istore_n (lv' := [(1, .int ((m_total (upd (m_cuts B n i) (57 + 6 * (m_big (m_cuts B n i) n n) + 5) (if m_out (m_cuts B n i) n (m_big (m_cuts B n i) n n) - (m_total (m_cuts B n i) n - (m_cuts B n i) 3) < 0 then 1 else m_out (m_cuts B n i) n (m_big (m_cuts B n i) n n) - (m_total (m_cuts B n i) n - (m_cuts B n i) 3) + 1)) n) - ((upd (m_cuts B n i) (57 + 6 * (m_big (m_cuts B n i) n n) + 5) (if m_out (m_cuts B n i) n (m_big (m_cuts B n i) n n) - (m_total (m_cuts B n i) n - (m_cuts B n i) 3) < 0 then 1 else m_out (m_cuts B n i) n (m_big (m_cuts B n i) n n) - (m_total (m_cuts B n i) n - (m_cuts B n i) 3) + 1)) 3))), (3, .int ((m_out (m_cuts B n i) n (m_big (m_cuts B n i) n n)) - (m_exc (m_cuts B n i) n))), (2, .int (nI (m_big (m_cuts B n i) n n))), (0, .ref (m 0))]) hE dX4_dispatches_106 rfl hl (by decide) rfl (fun ls hl => ?_)
                refine y_goto (tgt := 17) hE dX4_dispatches_107 (by decide) ?_
                exact ih17 _ _ (lv_sub hl [0, 3] rfl) (hW.cast (upd_upd _ _ _ _) rfl rfl rfl rfl rfl)
              refine y_if_ge (tgt := 79) hE dX4_dispatches_72 (by decide) (fun c72 => ?_) (fun c72 => ?_)
              · -- t 72
                have n72 := Int32.not_lt.mpr c72
                refine y_iload_n hE dX4_dispatches_79 rfl (lv_at hl 0 rfl) ?_
                refine y_iconst (v := 1) hE dX4_dispatches_80 (by decide) ?_
                refine y_iadd hE dX4_dispatches_81 ?_
                exact y_set1 ((by first | exact (if_neg (Int32.not_lt.mpr c72)).symm | exact (if_pos (Int32.not_le.mp c72)).symm)) (K82 _ hl)
              · -- f 72
                have n72 := Int32.not_le.mp c72
                refine y_iconst (v := 1) hE dX4_dispatches_75 (by decide) ?_
                refine y_goto (tgt := 82) hE dX4_dispatches_76 (by decide) ?_
                exact y_set1 ((by first | exact (if_neg (Int32.not_lt.mpr c72)).symm | exact (if_pos (Int32.not_le.mp c72)).symm)) (K82 _ hl)
            · -- f 32
              exact absurd (nI_le (Nat.le_refl _) (by omega)) c32
          · -- a round of the loop at 25
            intro k hk ih25 H ls hl hW hk1
            refine y_iload_n hE dX4_dispatches_25 rfl (lv_at hl 0 rfl) ?_
            refine y_aload_n hE dX4_dispatches_26 rfl (lv_at hl 2 rfl) ?_
            refine t_get (v := .ref (m 1)) hE 1 (by decide) q1977 rfl hW rfl dX4_dispatches_27 ?_
            refine y_iconst (v := 0) hE dX4_dispatches_30 (by decide) ?_
            refine t_aldB (j := 0) (v := (m_cuts B n i) 0) hE hW (rfl) (by decide) rfl dX4_dispatches_31 ?_
            refine y_set1 (w := nI n) ((m_cuts_lo _ _ (by omega) _).trans hn) ?_
            refine y_icmp_ge (tgt := 60) hE dX4_dispatches_32 (by decide) (fun c32 => ?_) (fun c32 => ?_)
            · -- t 32
              exact absurd c32 (nI_ge hk (by omega))
            · -- f 32
              have n32 := Int32.not_le.mp c32
              refine y_aload_n hE dX4_dispatches_35 rfl (lv_at hl 2 rfl) ?_
              refine y_iload_n hE dX4_dispatches_36 rfl (lv_at hl 0 rfl) ?_
              -- call output ['k']
              refine y_roV (rest := []) hE cl_X4_77 (kX4_output n k (by repeat (first | exact hn | rw [upd_ne (by omega)] | rw [m_cuts_lo _ _ (by omega)] | rw [m_ticks_lo _ (by omega)] | rw [m_rels_lo _ (by omega)] | rw [m_hours_lo _ _ _ (by omega)] | rw [m_pay_lo _ _ _ (by omega)] | rw [tGo_2])) hN (by omega)) dX4_dispatches_37 hl (Nat.le_of_ble_eq_true rfl) (y_recv hE rfl hW.1) rfl rfl (Nat.le_of_ble_eq_true rfl) hW ⟨(Nat.le_of_ble_eq_true rfl), (Nat.le_of_ble_eq_true rfl)⟩ ?_
              refine y_aload_n hE dX4_dispatches_40 rfl (lv_at hl 2 rfl) ?_
              refine y_iload_n hE dX4_dispatches_41 rfl (lv_at hl 1 rfl) ?_
              -- call output ['(m_big (m_cuts B n i) n k)']
              refine y_roV (rest := [.int (m_out (m_cuts B n i) n k)]) hE cl_X4_77 (kX4_output n (m_big (m_cuts B n i) n k) (by repeat (first | exact hn | rw [upd_ne (by omega)] | rw [m_cuts_lo _ _ (by omega)] | rw [m_ticks_lo _ (by omega)] | rw [m_rels_lo _ (by omega)] | rw [m_hours_lo _ _ _ (by omega)] | rw [m_pay_lo _ _ _ (by omega)] | rw [tGo_2])) hN (by have := m_big_lt (m_cuts B n i) n k; omega)) dX4_dispatches_42 hl (Nat.le_of_ble_eq_true rfl) (y_recv hE rfl hW.1) rfl rfl (Nat.le_of_ble_eq_true rfl) hW ⟨(Nat.le_of_ble_eq_true rfl), (Nat.le_of_ble_eq_true rfl)⟩ ?_
              have K53 : ∀ ls : Array Slot, lv_has ls 4 [(3, .int (nI k)), (2, .int (nI (m_big (m_cuts B n i) n k))), (0, .ref (m 0)), (1, .int (m_exc (m_cuts B n i) n))] → yY E (tA m) H 0 0 Q 53 ls [.int (nI (m_big (m_cuts B n i) n (k + 1)))] := by
                intro ls hl
                refine y_istore_n (lv' := [(2, .int (nI (m_big (m_cuts B n i) n (k + 1)))), (3, .int (nI k)), (0, .ref (m 0)), (1, .int (m_exc (m_cuts B n i) n))]) hE dX4_dispatches_53 rfl hl (by decide) rfl (fun ls hl => ?_)
                refine y_iinc (v := nI (k + 1)) (lv' := [(3, .int (nI (k + 1))), (2, .int (nI (m_big (m_cuts B n i) n (k + 1)))), (0, .ref (m 0)), (1, .int (m_exc (m_cuts B n i) n))]) hE dX4_dispatches_54 hl (k := 1) rfl (nI_1 k) (by decide) rfl (fun ls hl => ?_)
                refine y_goto (tgt := 25) hE dX4_dispatches_57 (by decide) ?_
                exact ih25 _ _ (lv_sub hl [0, 1, 2, 3] rfl) hW (by omega)
              refine y_icmp_le (tgt := 52) hE dX4_dispatches_45 (by decide) (fun c45 => ?_) (fun c45 => ?_)
              · -- t 45
                have n45 := Int32.not_lt.mpr c45
                refine y_iload_n hE dX4_dispatches_52 rfl (lv_at hl 1 rfl) ?_
                exact y_set1 ((by first | exact congrArg nI (if_neg (Int32.not_lt.mpr c45)).symm | exact congrArg nI (if_pos (Int32.not_le.mp c45)).symm)) (K53 _ hl)
              · -- f 45
                have n45 := Int32.not_le.mp c45
                refine y_iload_n hE dX4_dispatches_48 rfl (lv_at hl 0 rfl) ?_
                refine y_goto (tgt := 53) hE dX4_dispatches_49 (by decide) ?_
                exact y_set1 ((by first | exact congrArg nI (if_neg (Int32.not_lt.mpr c45)).symm | exact congrArg nI (if_pos (Int32.not_le.mp c45)).symm)) (K53 _ hl)
        exact K25 1 hpos _ _ (lv_sub hl [0, 1, 3, 2] rfl) hW (by omega)
  exact K17 0 (Nat.zero_le _) _ _ (lv_sub hl [0, 1] rfl) (hW.cast rfl rfl rfl rfl rfl rfl)

set_option maxHeartbeats 1000000 in
theorem kX4_releasesAll {z : State} {D : yD} {m : Nat → Nat} {g B : Nat → Int32} {Bs : Nat → Nat → Int32} {L I C : Nat → Int32} (n : Nat) (hn : B 0 = nI n) (hN : n ≤ 12) : yM yX4_releasesAll (ws_ yX4_releasesAll cX4_releasesAll 2 (some .int)) (rmD 3 0 0) z D [.ref (m 0)] (tW z D m g B Bs L I C) eI (fun vr H => vr = tBy (o_rels B n) ∧ tW z D m (tGo g (o_rels B n)) (tBo B (o_rels B n)) Bs L I C H) 0 0 (tA m) := by
  refine yM_of (own := RX4) (by decide +kernel) rfl (Nat.le_of_ble_eq_true rfl) (fun H h => h.az) fun E hE hW ls hl hin => ?_
  obtain ⟨Q, hQ⟩ : ∃ Q, Q = yEm E eI (fun vr H => vr = tBy (o_rels B n) ∧ tW z D m (tGo g (o_rels B n)) (tBo B (o_rels B n)) Bs L I C H) 0 0 (tA m) := ⟨_, rfl⟩
  rw [← hQ]
  generalize (e_s E).heap = H at hW ⊢
  have hl : lv_has ls 2 [(0, .ref (m 0))] := hl
  refine y_aload_n hE dX4_releasesAll_0 rfl (lv_at hl 0 rfl) ?_
  refine y_iconst (v := 0) hE dX4_releasesAll_1 (by decide) ?_
  refine t_put (g' := upd g 4 0) hE hW 4 (by decide) q1980 rfl rfl rfl rfl rfl dX4_releasesAll_2 (fun H hW => ?_)
  refine y_iconst (v := 0) hE dX4_releasesAll_5 (by decide) ?_
  refine y_istore_n (lv' := [(1, .int 0), (0, .ref (m 0))]) hE dX4_releasesAll_6 rfl hl (by decide) rfl (fun ls hl => ?_)
  have K7 : ∀ i : Nat, i ≤ n → ∀ (H : Heap) (ls : Array Slot), lv_has ls 2 [(1, .int (nI i)), (0, .ref (m 0))] → tW z D m (upd g 4 (m_relN B i)) (m_rels B i) Bs L I C H → yY E (tA m) H 0 0 Q 7 ls [] := by
    refine y_loop ?_ ?_
    · -- the end of the loop at 7
      intro H ls hl hW 
      refine y_iload_n hE dX4_releasesAll_7 rfl (lv_at hl 0 rfl) ?_
      refine y_aload_n hE dX4_releasesAll_8 rfl (lv_at hl 1 rfl) ?_
      refine t_get (v := .ref (m 1)) hE 1 (by decide) q1977 rfl hW rfl dX4_releasesAll_9 ?_
      refine y_iconst (v := 0) hE dX4_releasesAll_12 (by decide) ?_
      refine t_aldB (j := 0) (v := (m_rels B n) 0) hE hW (rfl) (by decide) rfl dX4_releasesAll_13 ?_
      refine y_set1 (w := nI n) ((m_rels_lo _ (by omega) _).trans hn) ?_
      refine y_icmp_ge (tgt := 53) hE dX4_releasesAll_14 (by decide) (fun c14 => ?_) (fun c14 => ?_)
      · -- t 14
        have n14 := Int32.not_lt.mpr c14
        refine y_iconst (v := 0) hE dX4_releasesAll_53 (by decide) ?_
        rw [hQ]
        exact y_iret hE dX4_releasesAll_54 ⟨rfl, hW.cast rfl rfl rfl rfl rfl rfl⟩ (Nat.le_of_ble_eq_true rfl) (Nat.le_of_ble_eq_true rfl)
      · -- f 14
        exact absurd (nI_le (Nat.le_refl _) (by omega)) c14
    · -- a round of the loop at 7
      intro i hi ih7 H ls hl hW 
      refine y_iload_n hE dX4_releasesAll_7 rfl (lv_at hl 0 rfl) ?_
      refine y_aload_n hE dX4_releasesAll_8 rfl (lv_at hl 1 rfl) ?_
      refine t_get (v := .ref (m 1)) hE 1 (by decide) q1977 rfl hW rfl dX4_releasesAll_9 ?_
      refine y_iconst (v := 0) hE dX4_releasesAll_12 (by decide) ?_
      refine t_aldB (j := 0) (v := (m_rels B i) 0) hE hW (rfl) (by decide) rfl dX4_releasesAll_13 ?_
      refine y_set1 (w := nI n) ((m_rels_lo _ (by omega) _).trans hn) ?_
      refine y_icmp_ge (tgt := 53) hE dX4_releasesAll_14 (by decide) (fun c14 => ?_) (fun c14 => ?_)
      · -- t 14
        exact absurd c14 (nI_ge hi (by omega))
      · -- f 14
        have n14 := Int32.not_le.mp c14
        refine y_aload_n hE dX4_releasesAll_17 rfl (lv_at hl 1 rfl) ?_
        refine y_dup hE dX4_releasesAll_18 rfl ?_
        refine t_get (v := .int (m_relN B i)) hE 4 (by decide) q1980 rfl hW rfl dX4_releasesAll_19 ?_
        refine y_aload_n hE dX4_releasesAll_22 rfl (lv_at hl 1 rfl) ?_
        refine y_iload_n hE dX4_releasesAll_23 rfl (lv_at hl 0 rfl) ?_
        refine y_iconst (v := 5) hE dX4_releasesAll_24 (by decide) ?_
        -- call t ['i', '5']
        refine y_roV (rest := [.int (m_relN B i), .ref (m 0)]) hE cl_X4_57 (kX4_t i 5 (by omega) (by omega)) dX4_releasesAll_25 hl (Nat.le_of_ble_eq_true rfl) (y_recv hE rfl hW.1) rfl rfl (Nat.le_of_ble_eq_true rfl) hW ⟨(Nat.le_of_ble_eq_true rfl), (Nat.le_of_ble_eq_true rfl)⟩ ?_
        have K36 : ∀ ls : Array Slot, lv_has ls 2 [(1, .int (nI i)), (0, .ref (m 0))] → yY E (tA m) H 0 0 Q 36 ls [.int (if 0 < m_t (m_rels B i) i 5 then 1 else 0), .int (m_relN B i), .ref (m 0)] := by
          intro ls hl
          refine y_iadd hE dX4_releasesAll_36 ?_
          refine t_put (g' := upd (upd g 4 (m_relN B i)) 4 ((m_relN B i) + (if 0 < m_t (m_rels B i) i 5 then 1 else 0))) hE hW 4 (by decide) q1980 rfl rfl rfl rfl rfl dX4_releasesAll_37 (fun H hW => ?_)
          refine y_aload_n hE dX4_releasesAll_40 rfl (lv_at hl 1 rfl) ?_
          refine y_iload_n hE dX4_releasesAll_41 rfl (lv_at hl 0 rfl) ?_
          refine y_iconst (v := 5) hE dX4_releasesAll_42 (by decide) ?_
          refine y_iconst (v := 0) hE dX4_releasesAll_43 (by decide) ?_
          -- call set ['i', '5', '0']
          refine y_muV (rest := []) hE cl_X4_88 (kX4_set i 5 0 (by omega) (by omega)) dX4_releasesAll_44 hl (Nat.le_of_ble_eq_true rfl) (y_recv hE rfl hW.1) rfl rfl (Nat.le_of_ble_eq_true rfl) hW (fun _ h => h) ⟨(Nat.le_of_ble_eq_true rfl), (Nat.le_of_ble_eq_true rfl)⟩ (fun vr H hW _ _ => ?_)
          have hW : tW z D m (upd (upd g 4 (m_relN B i)) 4 ((m_relN B i) + (if 0 < m_t (m_rels B i) i 5 then 1 else 0))) (upd (m_rels B i) (57 + 6 * i + 5) 0) Bs L I C H := hW
          refine y_st (st' := []) rfl ?_
          refine y_iinc (v := nI (i + 1)) (lv' := [(1, .int (nI (i + 1))), (0, .ref (m 0))]) hE dX4_releasesAll_47 hl (k := 0) rfl (nI_1 i) (by decide) rfl (fun ls hl => ?_)
          refine y_goto (tgt := 7) hE dX4_releasesAll_50 (by decide) ?_
          exact ih7 _ _ (lv_sub hl [0, 1] rfl) (hW.cast (upd_upd _ _ _ _) rfl rfl rfl rfl rfl)
        refine y_if_le (tgt := 35) hE dX4_releasesAll_28 (by decide) (fun c28 => ?_) (fun c28 => ?_)
        · -- t 28
          have n28 := Int32.not_lt.mpr c28
          refine y_iconst (v := 0) hE dX4_releasesAll_35 (by decide) ?_
          exact y_set1 ((by first | exact (if_neg (Int32.not_lt.mpr c28)).symm | exact (if_pos (Int32.not_le.mp c28)).symm)) (K36 _ hl)
        · -- f 28
          have n28 := Int32.not_le.mp c28
          refine y_iconst (v := 1) hE dX4_releasesAll_31 (by decide) ?_
          refine y_goto (tgt := 36) hE dX4_releasesAll_32 (by decide) ?_
          exact y_set1 ((by first | exact (if_neg (Int32.not_lt.mpr c28)).symm | exact (if_pos (Int32.not_le.mp c28)).symm)) (K36 _ hl)
  exact K7 0 (Nat.zero_le _) _ _ (lv_sub hl [0, 1] rfl) (hW.cast rfl rfl rfl rfl rfl rfl)

set_option maxHeartbeats 1000000 in
theorem kX4_passes {z : State} {D : yD} {m : Nat → Nat} {g B : Nat → Int32} {Bs : Nat → Nat → Int32} {L I C : Nat → Int32} (n : Nat) (t : Nat) (hn : B 0 = nI n) (hN : n ≤ 12) (hT : B 4 = nI t) (ht : t < 2 ^ 20) : yM yX4_passes (ws_ yX4_passes cX4_passes 8 none) (rmD 8 0 0) z D [.ref (m 0)] (tW z D m g B Bs L I C) eV (fun _ H => tW z D m g (m_hour B n t) Bs L I C H) 0 0 (tA m) := by
  refine yM_of (own := RX4) (by decide +kernel) rfl (Nat.le_of_ble_eq_true rfl) (fun H h => h.az) fun E hE hW ls hl hin => ?_
  obtain ⟨Q, hQ⟩ : ∃ Q, Q = yEm E eV (fun _ H => tW z D m g (m_hour B n t) Bs L I C H) 0 0 (tA m) := ⟨_, rfl⟩
  rw [← hQ]
  generalize (e_s E).heap = H at hW ⊢
  have hl : lv_has ls 8 [(0, .ref (m 0))] := hl
  refine y_aload_n hE dX4_passes_0 rfl (lv_at hl 0 rfl) ?_
  refine t_get (v := .ref (m 1)) hE 1 (by decide) q1977 rfl hW rfl dX4_passes_1 ?_
  refine y_iconst (v := 4) hE dX4_passes_4 (by decide) ?_
  refine t_aldB (j := 4) (v := B 4) hE hW (rfl) (by decide) rfl dX4_passes_5 ?_
  refine y_set1 (w := nI t) (hT) ?_
  refine y_bipush (v := 24) hE dX4_passes_6 (by decide) ?_
  refine y_irem hE dX4_passes_8 (by decide) ?_
  refine y_set1 (w := nI (t % 24)) (nI_mod24 (by omega)) ?_
  have h24 : t % 24 < 24 := by omega
  refine y_istore_n (lv' := [(1, .int (nI (t % 24))), (0, .ref (m 0))]) hE dX4_passes_9 rfl hl (by decide) rfl (fun ls hl => ?_)
  refine y_aload_n hE dX4_passes_10 rfl (lv_at hl 1 rfl) ?_
  -- call total []
  refine y_roV (rest := []) hE cl_X4_129 (kX4_total n hn hN) dX4_passes_11 hl (Nat.le_of_ble_eq_true rfl) (y_recv hE rfl hW.1) rfl rfl (Nat.le_of_ble_eq_true rfl) hW ⟨(Nat.le_of_ble_eq_true rfl), (Nat.le_of_ble_eq_true rfl)⟩ ?_
  refine y_istore_n (lv' := [(2, .int (m_total B n)), (1, .int (nI (t % 24))), (0, .ref (m 0))]) hE dX4_passes_14 rfl hl (by decide) rfl (fun ls hl => ?_)
  refine y_iload_n hE dX4_passes_15 rfl (lv_at hl 0 rfl) ?_
  refine y_bipush (v := 20) hE dX4_passes_16 (by decide) ?_
  refine y_idiv hE dX4_passes_18 (by decide) ?_
  refine y_istore_n (lv' := [(3, .int ((m_total B n) / 20)), (2, .int (m_total B n)), (1, .int (nI (t % 24))), (0, .ref (m 0))]) hE dX4_passes_19 rfl hl (by decide) rfl (fun ls hl => ?_)
  refine y_iload_n hE dX4_passes_20 rfl (lv_at hl 1 rfl) ?_
  refine y_iload_n hE dX4_passes_21 rfl (lv_at hl 0 rfl) ?_
  refine y_isub hE dX4_passes_22 ?_
  refine y_istore (lv' := [(4, .int ((m_total B n) - ((m_total B n) / 20))), (3, .int ((m_total B n) / 20)), (2, .int (m_total B n)), (1, .int (nI (t % 24))), (0, .ref (m 0))]) hE dX4_passes_23 hl (by decide) rfl (fun ls hl => ?_)
  refine y_aload_n hE dX4_passes_25 rfl (lv_at hl 4 rfl) ?_
  refine y_iload_n hE dX4_passes_26 rfl (lv_at hl 3 rfl) ?_
  -- call quantity ['(t % 24)']
  refine y_roV (rest := []) hE cl_X4_159 (kX4_quantity (t % 24) (by omega)) dX4_passes_27 hl (Nat.le_of_ble_eq_true rfl) (y_recv hE rfl hW.1) rfl rfl (Nat.le_of_ble_eq_true rfl) hW ⟨(Nat.le_of_ble_eq_true rfl), (Nat.le_of_ble_eq_true rfl)⟩ ?_
  refine y_istore (lv' := [(5, .int (m_quan B (t % 24))), (4, .int ((m_total B n) - ((m_total B n) / 20))), (3, .int ((m_total B n) / 20)), (2, .int (m_total B n)), (1, .int (nI (t % 24))), (0, .ref (m 0))]) hE dX4_passes_30 hl (by decide) rfl (fun ls hl => ?_)
  refine y_iload hE dX4_passes_32 (lv_at hl 1 rfl) ?_
  refine y_iload hE dX4_passes_34 (lv_at hl 0 rfl) ?_
  have K46 : ∀ ls : Array Slot, lv_has ls 8 [(5, .int (m_quan B (t % 24))), (4, .int ((m_total B n) - ((m_total B n) / 20))), (3, .int ((m_total B n) / 20)), (2, .int (m_total B n)), (1, .int (nI (t % 24))), (0, .ref (m 0))] → yY E (tA m) H 0 0 Q 46 ls [.int (m_sold B n (t % 24))] := by
    intro ls hl
    refine y_istore (lv' := [(6, .int (m_sold B n (t % 24))), (5, .int (m_quan B (t % 24))), (4, .int ((m_total B n) - ((m_total B n) / 20))), (3, .int ((m_total B n) / 20)), (2, .int (m_total B n)), (1, .int (nI (t % 24))), (0, .ref (m 0))]) hE dX4_passes_46 hl (by decide) rfl (fun ls hl => ?_)
    refine y_aload_n hE dX4_passes_48 rfl (lv_at hl 6 rfl) ?_
    refine t_get (v := .ref (m 1)) hE 1 (by decide) q1977 rfl hW rfl dX4_passes_49 ?_
    refine y_iconst (v := 5) hE dX4_passes_52 (by decide) ?_
    refine y_dup2_11 hE dX4_passes_53 rfl rfl ?_
    refine t_aldB (j := 5) (v := B 5) hE hW (rfl) (by decide) rfl dX4_passes_54 ?_
    refine y_iload_n hE dX4_passes_55 rfl (lv_at hl 4 rfl) ?_
    refine y_iadd hE dX4_passes_56 ?_
    refine t_astB (j := 5) hE hW (rfl) (by decide) dX4_passes_57 (fun H hW => ?_)
    refine y_aload_n hE dX4_passes_58 rfl (lv_at hl 6 rfl) ?_
    refine t_get (v := .ref (m 1)) hE 1 (by decide) q1977 rfl hW rfl dX4_passes_59 ?_
    refine y_bipush (v := 6) hE dX4_passes_62 (by decide) ?_
    refine y_dup2_11 hE dX4_passes_64 rfl rfl ?_
    refine t_aldB (j := 6) (v := B 6) hE hW (rfl) (by decide) rfl dX4_passes_65 ?_
    refine y_iload_n hE dX4_passes_66 rfl (lv_at hl 3 rfl) ?_
    refine y_iadd hE dX4_passes_67 ?_
    refine t_astB (j := 6) hE hW (rfl) (by decide) dX4_passes_68 (fun H hW => ?_)
    refine y_aload_n hE dX4_passes_69 rfl (lv_at hl 6 rfl) ?_
    refine t_get (v := .ref (m 1)) hE 1 (by decide) q1977 rfl hW rfl dX4_passes_70 ?_
    refine y_bipush (v := 7) hE dX4_passes_73 (by decide) ?_
    refine y_dup2_11 hE dX4_passes_75 rfl rfl ?_
    refine t_aldB (j := 7) (v := B 7) hE hW (rfl) (by decide) rfl dX4_passes_76 ?_
    refine y_iload hE dX4_passes_77 (lv_at hl 0 rfl) ?_
    refine y_iadd hE dX4_passes_79 ?_
    refine t_astB (j := 7) hE hW (rfl) (by decide) dX4_passes_80 (fun H hW => ?_)
    refine y_aload_n hE dX4_passes_81 rfl (lv_at hl 6 rfl) ?_
    refine t_get (v := .ref (m 1)) hE 1 (by decide) q1977 rfl hW rfl dX4_passes_82 ?_
    refine y_bipush (v := 8) hE dX4_passes_85 (by decide) ?_
    refine y_dup2_11 hE dX4_passes_87 rfl rfl ?_
    refine t_aldB (j := 8) (v := B 8) hE hW (rfl) (by decide) rfl dX4_passes_88 ?_
    refine y_iload hE dX4_passes_89 (lv_at hl 0 rfl) ?_
    refine y_aload_n hE dX4_passes_91 rfl (lv_at hl 6 rfl) ?_
    refine y_iload_n hE dX4_passes_92 rfl (lv_at hl 5 rfl) ?_
    -- call price ['(t % 24)']
    refine y_roV (rest := [.int (m_sold B n (t % 24)), .int (B 8), .int 8, .ref (m 1)]) hE cl_X4_147 (kX4_price (t % 24) (by omega)) dX4_passes_93 hl (Nat.le_of_ble_eq_true rfl) (y_recv hE rfl hW.1) rfl rfl (Nat.le_of_ble_eq_true rfl) hW ⟨(Nat.le_of_ble_eq_true rfl), (Nat.le_of_ble_eq_true rfl)⟩ ?_
    refine y_imul hE dX4_passes_96 ?_
    refine y_iload hE dX4_passes_97 (lv_at hl 1 rfl) ?_
    refine y_iload hE dX4_passes_99 (lv_at hl 0 rfl) ?_
    refine y_isub hE dX4_passes_101 ?_
    refine y_aload_n hE dX4_passes_102 rfl (lv_at hl 6 rfl) ?_
    refine y_iload_n hE dX4_passes_103 rfl (lv_at hl 5 rfl) ?_
    -- call price ['(t % 24)']
    refine y_roV (rest := [.int ((m_quan B (t % 24)) - (m_sold B n (t % 24))), .int ((m_sold B n (t % 24)) * (m_price (upd (upd (upd B 5 ((B 5) + (m_total B n))) 6 ((B 6) + ((m_total B n) / 20))) 7 ((B 7) + (m_sold B n (t % 24)))) (t % 24))), .int (B 8), .int 8, .ref (m 1)]) hE cl_X4_147 (kX4_price (t % 24) (by omega)) dX4_passes_104 hl (Nat.le_of_ble_eq_true rfl) (y_recv hE rfl hW.1) rfl rfl (Nat.le_of_ble_eq_true rfl) hW ⟨(Nat.le_of_ble_eq_true rfl), (Nat.le_of_ble_eq_true rfl)⟩ ?_
    refine y_imul hE dX4_passes_107 ?_
    refine y_isub hE dX4_passes_108 ?_
    refine y_iadd hE dX4_passes_109 ?_
    refine t_astB (j := 8) hE hW (rfl) (by decide) dX4_passes_110 (fun H hW => ?_)
    refine y_iconst (v := 0) hE dX4_passes_111 (by decide) ?_
    refine y_istore (lv' := [(7, .int 0), (6, .int (m_sold B n (t % 24))), (5, .int (m_quan B (t % 24))), (4, .int ((m_total B n) - ((m_total B n) / 20))), (3, .int ((m_total B n) / 20)), (2, .int (m_total B n)), (1, .int (nI (t % 24))), (0, .ref (m 0))]) hE dX4_passes_112 hl (by decide) rfl (fun ls hl => ?_)
    have K114 : ∀ i : Nat, i ≤ n → ∀ (H : Heap) (ls : Array Slot), lv_has ls 8 [(7, .int (nI i)), (0, .ref (m 0))] → tW z D m g (m_ticks (m_pay B n (t % 24)) i) Bs L I C H → yY E (tA m) H 0 0 Q 114 ls [] := by
      refine y_loop ?_ ?_
      · -- the end of the loop at 114
        intro H ls hl hW 
        refine y_iload hE dX4_passes_114 (lv_at hl 0 rfl) ?_
        refine y_aload_n hE dX4_passes_116 rfl (lv_at hl 1 rfl) ?_
        refine t_get (v := .ref (m 1)) hE 1 (by decide) q1977 rfl hW rfl dX4_passes_117 ?_
        refine y_iconst (v := 0) hE dX4_passes_120 (by decide) ?_
        refine t_aldB (j := 0) (v := (m_ticks (m_pay B n (t % 24)) n) 0) hE hW (rfl) (by decide) rfl dX4_passes_121 ?_
        refine y_set1 (w := nI n) (by rw [m_ticks_lo _ (by omega), m_pay_lo _ _ _ (by omega)]; exact hn) ?_
        refine y_icmp_ge (tgt := 183) hE dX4_passes_122 (by decide) (fun c122 => ?_) (fun c122 => ?_)
        · -- t 122
          have n122 := Int32.not_lt.mpr c122
          refine y_aload_n hE dX4_passes_183 rfl (lv_at hl 1 rfl) ?_
          refine t_get (v := .ref (m 1)) hE 1 (by decide) q1977 rfl hW rfl dX4_passes_184 ?_
          refine y_iconst (v := 4) hE dX4_passes_187 (by decide) ?_
          refine y_dup2_11 hE dX4_passes_188 rfl rfl ?_
          refine t_aldB (j := 4) (v := (m_ticks (m_pay B n (t % 24)) n) 4) hE hW (rfl) (by decide) rfl dX4_passes_189 ?_
          refine y_iconst (v := 1) hE dX4_passes_190 (by decide) ?_
          refine y_iadd hE dX4_passes_191 ?_
          refine y_set1 (w := nI (t + 1)) (by rw [m_ticks_lo _ (by omega), m_pay_lo _ _ _ (by omega), hT]; exact nI_1 t) ?_
          refine t_astB (j := 4) hE hW (rfl) (by decide) dX4_passes_192 (fun H hW => ?_)
          rw [hQ]
          exact y_vret hE dX4_passes_193 (hW.cast rfl rfl rfl rfl rfl rfl) (Nat.le_of_ble_eq_true rfl) (Nat.le_of_ble_eq_true rfl)
        · -- f 122
          exact absurd (nI_le (Nat.le_refl _) (by omega)) c122
      · -- a round of the loop at 114
        intro i hi ih114 H ls hl hW 
        refine y_iload hE dX4_passes_114 (lv_at hl 0 rfl) ?_
        refine y_aload_n hE dX4_passes_116 rfl (lv_at hl 1 rfl) ?_
        refine t_get (v := .ref (m 1)) hE 1 (by decide) q1977 rfl hW rfl dX4_passes_117 ?_
        refine y_iconst (v := 0) hE dX4_passes_120 (by decide) ?_
        refine t_aldB (j := 0) (v := (m_ticks (m_pay B n (t % 24)) i) 0) hE hW (rfl) (by decide) rfl dX4_passes_121 ?_
        refine y_set1 (w := nI n) (by rw [m_ticks_lo _ (by omega), m_pay_lo _ _ _ (by omega)]; exact hn) ?_
        refine y_icmp_ge (tgt := 183) hE dX4_passes_122 (by decide) (fun c122 => ?_) (fun c122 => ?_)
        · -- t 122
          exact absurd c122 (nI_ge hi (by omega))
        · -- f 122
          have n122 := Int32.not_le.mp c122
          refine y_aload_n hE dX4_passes_125 rfl (lv_at hl 1 rfl) ?_
          refine y_iload hE dX4_passes_126 (lv_at hl 0 rfl) ?_
          refine y_iconst (v := 3) hE dX4_passes_128 (by decide) ?_
          -- call t ['i', '3']
          refine y_roV (rest := []) hE cl_X4_57 (kX4_t i 3 (by omega) (by omega)) dX4_passes_129 hl (Nat.le_of_ble_eq_true rfl) (y_recv hE rfl hW.1) rfl rfl (Nat.le_of_ble_eq_true rfl) hW ⟨(Nat.le_of_ble_eq_true rfl), (Nat.le_of_ble_eq_true rfl)⟩ ?_
          refine y_iconst (v := 2) hE dX4_passes_132 (by decide) ?_
          refine y_icmp_eq (tgt := 139) hE dX4_passes_133 (by decide) (fun c133 => ?_) (fun c133 => ?_)
          · -- t 133
            refine y_aload_n hE dX4_passes_139 rfl (lv_at hl 1 rfl) ?_
            refine y_iload hE dX4_passes_140 (lv_at hl 0 rfl) ?_
            refine y_iconst (v := 4) hE dX4_passes_142 (by decide) ?_
            refine y_aload_n hE dX4_passes_143 rfl (lv_at hl 1 rfl) ?_
            refine y_iload hE dX4_passes_144 (lv_at hl 0 rfl) ?_
            refine y_iconst (v := 4) hE dX4_passes_146 (by decide) ?_
            -- call t ['i', '4']
            refine y_roV (rest := [.int 4, .int (nI i), .ref (m 0)]) hE cl_X4_57 (kX4_t i 4 (by omega) (by omega)) dX4_passes_147 hl (Nat.le_of_ble_eq_true rfl) (y_recv hE rfl hW.1) rfl rfl (Nat.le_of_ble_eq_true rfl) hW ⟨(Nat.le_of_ble_eq_true rfl), (Nat.le_of_ble_eq_true rfl)⟩ ?_
            refine y_iconst (v := 1) hE dX4_passes_150 (by decide) ?_
            refine y_isub hE dX4_passes_151 ?_
            -- call set ['i', '4', '(m_t (m_ticks (m_pay B n (t % 24)) i) i 4) - 1']
            refine y_muV (rest := []) hE cl_X4_88 (kX4_set i 4 ((m_t (m_ticks (m_pay B n (t % 24)) i) i 4) - 1) (by omega) (by omega)) dX4_passes_152 hl (Nat.le_of_ble_eq_true rfl) (y_recv hE rfl hW.1) rfl rfl (Nat.le_of_ble_eq_true rfl) hW (fun _ h => h) ⟨(Nat.le_of_ble_eq_true rfl), (Nat.le_of_ble_eq_true rfl)⟩ (fun vr H hW _ _ => ?_)
            have hW : tW z D m g (upd (m_ticks (m_pay B n (t % 24)) i) (57 + 6 * i + 4) ((m_t (m_ticks (m_pay B n (t % 24)) i) i 4) - 1)) Bs L I C H := hW
            refine y_st (st' := []) rfl ?_
            refine y_aload_n hE dX4_passes_155 rfl (lv_at hl 1 rfl) ?_
            refine y_iload hE dX4_passes_156 (lv_at hl 0 rfl) ?_
            refine y_iconst (v := 3) hE dX4_passes_158 (by decide) ?_
            refine y_aload_n hE dX4_passes_159 rfl (lv_at hl 1 rfl) ?_
            refine y_iload hE dX4_passes_160 (lv_at hl 0 rfl) ?_
            refine y_iconst (v := 4) hE dX4_passes_162 (by decide) ?_
            -- call t ['i', '4']
            refine y_roV (rest := [.int 3, .int (nI i), .ref (m 0)]) hE cl_X4_57 (kX4_t i 4 (by omega) (by omega)) dX4_passes_163 hl (Nat.le_of_ble_eq_true rfl) (y_recv hE rfl hW.1) rfl rfl (Nat.le_of_ble_eq_true rfl) hW ⟨(Nat.le_of_ble_eq_true rfl), (Nat.le_of_ble_eq_true rfl)⟩ ?_
            have K174 : ∀ ls : Array Slot, lv_has ls 8 [(7, .int (nI i)), (0, .ref (m 0))] → yY E (tA m) H 0 0 Q 174 ls [.int (if m_t (upd (m_ticks (m_pay B n (t % 24)) i) (57 + 6 * i + 4) (m_t (m_ticks (m_pay B n (t % 24)) i) i 4 - 1)) i 4 = 0 then 0 else 2), .int 3, .int (nI i), .ref (m 0)] := by
              intro ls hl
              -- call set ['i', '3', '(if m_t (upd (m_ticks (m_pay B n (t % 24)) i) (57 + 6 * i + 4) (m_t (m_ticks (m_pay B n (t % 24)) i) i 4 - 1)) i 4 = 0 then 0 else 2)']
              refine y_muV (rest := []) hE cl_X4_88 (kX4_set i 3 (if m_t (upd (m_ticks (m_pay B n (t % 24)) i) (57 + 6 * i + 4) (m_t (m_ticks (m_pay B n (t % 24)) i) i 4 - 1)) i 4 = 0 then 0 else 2) (by omega) (by omega)) dX4_passes_174 hl (Nat.le_of_ble_eq_true rfl) (y_recv hE rfl hW.1) rfl rfl (Nat.le_of_ble_eq_true rfl) hW (fun _ h => h) ⟨(Nat.le_of_ble_eq_true rfl), (Nat.le_of_ble_eq_true rfl)⟩ (fun vr H hW _ _ => ?_)
              have hW : tW z D m g (upd (upd (m_ticks (m_pay B n (t % 24)) i) (57 + 6 * i + 4) ((m_t (m_ticks (m_pay B n (t % 24)) i) i 4) - 1)) (57 + 6 * i + 3) (if m_t (upd (m_ticks (m_pay B n (t % 24)) i) (57 + 6 * i + 4) (m_t (m_ticks (m_pay B n (t % 24)) i) i 4 - 1)) i 4 = 0 then 0 else 2)) Bs L I C H := hW
              refine y_st (st' := []) rfl ?_
              refine y_iinc (v := nI (i + 1)) (lv' := [(7, .int (nI (i + 1))), (0, .ref (m 0))]) hE dX4_passes_177 hl (k := 0) rfl (nI_1 i) (by decide) rfl (fun ls hl => ?_)
              refine y_goto (tgt := 114) hE dX4_passes_180 (by decide) ?_
              exact ih114 _ _ (lv_sub hl [0, 1] rfl) (hW.cast rfl (by rw [m_ticks, m_tick1]; first | exact (if_pos c133).symm | exact (if_neg c133).symm) rfl rfl rfl rfl)
            refine y_if_ne (tgt := 173) hE dX4_passes_166 (by decide) (fun c166 => ?_) (fun c166 => ?_)
            · -- t 166
              refine y_iconst (v := 2) hE dX4_passes_173 (by decide) ?_
              exact y_set1 ((by first | exact (if_pos c166).symm | exact (if_neg c166).symm)) (K174 _ hl)
            · -- f 166
              refine y_iconst (v := 0) hE dX4_passes_169 (by decide) ?_
              refine y_goto (tgt := 174) hE dX4_passes_170 (by decide) ?_
              exact y_set1 ((by first | exact (if_pos c166).symm | exact (if_neg c166).symm)) (K174 _ hl)
          · -- f 133
            refine y_goto (tgt := 177) hE dX4_passes_136 (by decide) ?_
            refine y_iinc (v := nI (i + 1)) (lv' := [(7, .int (nI (i + 1))), (0, .ref (m 0))]) hE dX4_passes_177 hl (k := 0) rfl (nI_1 i) (by decide) rfl (fun ls hl => ?_)
            refine y_goto (tgt := 114) hE dX4_passes_180 (by decide) ?_
            exact ih114 _ _ (lv_sub hl [0, 1] rfl) (hW.cast rfl (by rw [m_ticks, m_tick1]; first | exact (if_pos c133).symm | exact (if_neg c133).symm) rfl rfl rfl rfl)
    exact K114 0 (Nat.zero_le _) _ _ (lv_sub hl [0, 7] rfl) (hW.cast rfl (by show _ = m_pay B n (t % 24); unfold m_pay m_price; repeat rw [upd_ne (by omega)]) rfl rfl rfl rfl)
  refine y_icmp_ge (tgt := 44) hE dX4_passes_36 (by decide) (fun c36 => ?_) (fun c36 => ?_)
  · -- t 36
    have n36 := Int32.not_lt.mpr c36
    refine y_iload hE dX4_passes_44 (lv_at hl 0 rfl) ?_
    exact y_set1 ((by unfold m_sold; first | exact (if_neg (Int32.not_lt.mpr c36)).symm | exact (if_pos (Int32.not_le.mp c36)).symm)) (K46 _ hl)
  · -- f 36
    have n36 := Int32.not_le.mp c36
    refine y_iload hE dX4_passes_39 (lv_at hl 1 rfl) ?_
    refine y_goto (tgt := 46) hE dX4_passes_41 (by decide) ?_
    exact y_set1 ((by unfold m_sold; first | exact (if_neg (Int32.not_lt.mpr c36)).symm | exact (if_pos (Int32.not_le.mp c36)).symm)) (K46 _ hl)

set_option maxHeartbeats 1000000 in
theorem kX4_passesHours {z : State} {D : yD} {m : Nat → Nat} {g B : Nat → Int32} {Bs : Nat → Nat → Int32} {L I C : Nat → Int32} (n : Nat) (t : Nat) (x : Int32) (hn : B 0 = nI n) (hN : n ≤ 12) (hT : B 4 = nI t) (ht : t + 50 < 2 ^ 20) : yM yX4_passesHours (ws_ yX4_passesHours cX4_passesHours 4 (some .int)) (rmD 9 0 0) z D [.ref (m 0), .int x] (tW z D m g B Bs L I C) eI (fun vr H => vr = tBy (o_hours B n t x) ∧ tW z D m (tGo g (o_hours B n t x)) (tBo B (o_hours B n t x)) Bs L I C H) 0 0 (tA m) := by
  refine yM_of (own := RX4) (by decide +kernel) rfl (Nat.le_of_ble_eq_true rfl) (fun H h => h.az) fun E hE hW ls hl hin => ?_
  obtain ⟨Q, hQ⟩ : ∃ Q, Q = yEm E eI (fun vr H => vr = tBy (o_hours B n t x) ∧ tW z D m (tGo g (o_hours B n t x)) (tBo B (o_hours B n t x)) Bs L I C H) 0 0 (tA m) := ⟨_, rfl⟩
  rw [← hQ]
  generalize (e_s E).heap = H at hW ⊢
  have hl : lv_has ls 4 [(0, .ref (m 0)), (1, .int x)] := hl
  rcases m_48_or x with ⟨hx, hxi⟩ | ⟨k, hk, rfl, hx, hxi⟩
  · -- no such place
    refine y_iload_n hE dX4_passesHours_0 rfl (lv_at hl 1 rfl) ?_
    refine y_iconst (v := 1) hE dX4_passesHours_1 (by decide) ?_
    refine y_bipush (v := 48) hE dX4_passesHours_2 (by decide) ?_
    -- call in ['x', '1', '48']
    refine y_roS (rest := []) hE cl_X4_53 (kX4_in x 1 48) dX4_passesHours_4 hl (Nat.le_of_ble_eq_true rfl) rfl rfl (Nat.le_of_ble_eq_true rfl) trivial ⟨(Nat.le_of_ble_eq_true rfl), (Nat.le_of_ble_eq_true rfl)⟩ ?_
    refine y_if_ne (tgt := 12) hE dX4_passesHours_7 (by decide) (fun c7 => ?_) (fun c7 => ?_)
    · -- t 7
      rw [zb_1] at c7
      exact absurd c7 (by simp [hx])
    · -- f 7
      rw [zb_0] at c7
      refine y_iconst (v := 2) hE dX4_passesHours_10 (by decide) ?_
      rw [hQ]
      exact y_iret hE dX4_passesHours_11 ⟨(by simp [tBy, tGo, tBo, o_hours, hxi]), (hW.cast (by simp [tBy, tGo, tBo, o_hours, hxi]) (by simp [tBy, tGo, tBo, o_hours, hxi]) rfl rfl rfl rfl)⟩ (Nat.le_of_ble_eq_true rfl) (Nat.le_of_ble_eq_true rfl)
  · -- a place
    have hl : lv_has ls 4 [(0, .ref (m 0)), (1, .int (nI k))] := hl
    refine y_iload_n hE dX4_passesHours_0 rfl (lv_at hl 1 rfl) ?_
    refine y_iconst (v := 1) hE dX4_passesHours_1 (by decide) ?_
    refine y_bipush (v := 48) hE dX4_passesHours_2 (by decide) ?_
    -- call in ['nI k', '1', '48']
    refine y_roS (rest := []) hE cl_X4_53 (kX4_in (nI k) 1 48) dX4_passesHours_4 hl (Nat.le_of_ble_eq_true rfl) rfl rfl (Nat.le_of_ble_eq_true rfl) trivial ⟨(Nat.le_of_ble_eq_true rfl), (Nat.le_of_ble_eq_true rfl)⟩ ?_
    refine y_if_ne (tgt := 12) hE dX4_passesHours_7 (by decide) (fun c7 => ?_) (fun c7 => ?_)
    · -- t 7
      rw [zb_1] at c7
      refine y_aload_n hE dX4_passesHours_12 rfl (lv_at hl 0 rfl) ?_
      refine t_get (v := .ref (m 1)) hE 1 (by decide) q1977 rfl hW rfl dX4_passesHours_13 ?_
      refine y_bipush (v := 7) hE dX4_passesHours_16 (by decide) ?_
      refine t_aldB (j := 7) (v := B 7) hE hW (rfl) (by decide) rfl dX4_passesHours_18 ?_
      refine y_istore_n (lv' := [(2, .int (B 7)), (0, .ref (m 0)), (1, .int (nI k))]) hE dX4_passesHours_19 rfl hl (by decide) rfl (fun ls hl => ?_)
      refine y_iconst (v := 0) hE dX4_passesHours_20 (by decide) ?_
      refine y_istore_n (lv' := [(3, .int 0), (2, .int (B 7)), (0, .ref (m 0)), (1, .int (nI k))]) hE dX4_passesHours_21 rfl hl (by decide) rfl (fun ls hl => ?_)
      have K22 : ∀ i : Nat, i ≤ k → ∀ (H : Heap) (ls : Array Slot), lv_has ls 4 [(3, .int (nI i)), (2, .int (B 7)), (0, .ref (m 0)), (1, .int (nI k))] → tW z D m g (m_hours B n t i) Bs L I C H → yY E (tA m) H 0 0 Q 22 ls [] := by
        refine y_loop ?_ ?_
        · -- the end of the loop at 22
          intro H ls hl hW 
          refine y_iload_n hE dX4_passesHours_22 rfl (lv_at hl 0 rfl) ?_
          refine y_iload_n hE dX4_passesHours_23 rfl (lv_at hl 3 rfl) ?_
          refine y_icmp_ge (tgt := 37) hE dX4_passesHours_24 (by decide) (fun c24 => ?_) (fun c24 => ?_)
          · -- t 24
            have n24 := Int32.not_lt.mpr c24
            refine y_aload_n hE dX4_passesHours_37 rfl (lv_at hl 2 rfl) ?_
            refine y_aload_n hE dX4_passesHours_38 rfl (lv_at hl 2 rfl) ?_
            refine t_get (v := .ref (m 1)) hE 1 (by decide) q1977 rfl hW rfl dX4_passesHours_39 ?_
            refine y_bipush (v := 7) hE dX4_passesHours_42 (by decide) ?_
            refine t_aldB (j := 7) (v := (m_hours B n t k) 7) hE hW (rfl) (by decide) rfl dX4_passesHours_44 ?_
            refine y_iload_n hE dX4_passesHours_45 rfl (lv_at hl 1 rfl) ?_
            refine y_isub hE dX4_passesHours_46 ?_
            refine t_put (g' := upd g 4 (((m_hours B n t k) 7) - (B 7))) hE hW 4 (by decide) q1980 rfl rfl rfl rfl rfl dX4_passesHours_47 (fun H hW => ?_)
            refine y_iconst (v := 0) hE dX4_passesHours_50 (by decide) ?_
            rw [hQ]
            exact y_iret hE dX4_passesHours_51 ⟨(by simp [tBy, tGo, tBo, o_hours, hxi]), (hW.cast (by simp [tBy, tGo, tBo, o_hours, hxi]) (by simp [tBy, tGo, tBo, o_hours, hxi]) rfl rfl rfl rfl)⟩ (Nat.le_of_ble_eq_true rfl) (Nat.le_of_ble_eq_true rfl)
          · -- f 24
            exact absurd (nI_le (Nat.le_refl _) (by omega)) c24
        · -- a round of the loop at 22
          intro i hi ih22 H ls hl hW 
          refine y_iload_n hE dX4_passesHours_22 rfl (lv_at hl 0 rfl) ?_
          refine y_iload_n hE dX4_passesHours_23 rfl (lv_at hl 3 rfl) ?_
          refine y_icmp_ge (tgt := 37) hE dX4_passesHours_24 (by decide) (fun c24 => ?_) (fun c24 => ?_)
          · -- t 24
            exact absurd c24 (nI_ge hi (by omega))
          · -- f 24
            have n24 := Int32.not_le.mp c24
            refine y_aload_n hE dX4_passesHours_27 rfl (lv_at hl 2 rfl) ?_
            -- call passes []
            refine y_muV (rest := []) hE cl_X4_165 (kX4_passes n (t + i) (by repeat (first | exact hn | rw [upd_ne (by omega)] | rw [m_cuts_lo _ _ (by omega)] | rw [m_ticks_lo _ (by omega)] | rw [m_rels_lo _ (by omega)] | rw [m_hours_lo _ _ _ (by omega)] | rw [m_pay_lo _ _ _ (by omega)] | rw [tGo_2])) hN (m_hours_4 _ _ _ hT i) (by omega)) dX4_passesHours_28 hl (Nat.le_of_ble_eq_true rfl) (y_recv hE rfl hW.1) rfl rfl (Nat.le_of_ble_eq_true rfl) hW (fun _ h => h) ⟨(Nat.le_of_ble_eq_true rfl), (Nat.le_of_ble_eq_true rfl)⟩ (fun vr H hW _ _ => ?_)
            have hW : tW z D m g (m_hour (m_hours B n t i) n (t + i)) Bs L I C H := hW
            refine y_st (st' := []) rfl ?_
            refine y_iinc (v := nI (i + 1)) (lv' := [(3, .int (nI (i + 1))), (2, .int (B 7)), (0, .ref (m 0)), (1, .int (nI k))]) hE dX4_passesHours_31 hl (k := 0) rfl (nI_1 i) (by decide) rfl (fun ls hl => ?_)
            refine y_goto (tgt := 22) hE dX4_passesHours_34 (by decide) ?_
            exact ih22 _ _ (lv_sub hl [0, 1, 2, 3] rfl) (hW.cast rfl rfl rfl rfl rfl rfl)
      exact K22 0 (Nat.zero_le _) _ _ (lv_sub hl [0, 1, 2, 3] rfl) (hW.cast rfl rfl rfl rfl rfl rfl)
    · -- f 7
      rw [zb_0] at c7
      exact absurd c7 (by simp [hx])

set_option maxHeartbeats 1000000 in
theorem kX4_addTurbine {z : State} {D : yD} {m : Nat → Nat} {g B : Nat → Int32} {Bs : Nat → Nat → Int32} {L I C : Nat → Int32} (n : Nat) (c : Nat) (r : Int32) (c_ : Int32) (q : Int32) (hn : B 0 = nI n) (hN : n ≤ 12) (hc : g 2 = nI c) (hC : c ≤ 8) : yM yX4_addTurbine (ws_ yX4_addTurbine cX4_addTurbine 4 (some .int)) (rmD 10 0 0) z D [.ref (m 0), .int r, .int c_, .int q] (tW z D m g B Bs L I C) eI (fun vr H => vr = e_r (tGo g (o_adds B n r c_ q)) (tThr (tBy (o_adds B n r c_ q)) 1 2 3) ∧ tW z D m (e_g (tGo g (o_adds B n r c_ q)) (tThr (tBy (o_adds B n r c_ q)) 1 2 3) c) (e_B (tBo B (o_adds B n r c_ q)) (sRow Bs 10 B) (tThr (tBy (o_adds B n r c_ q)) 1 2 3)) (e_Bs (sRow Bs 10 B) (tThr (tBy (o_adds B n r c_ q)) 1 2 3) c) L I C H) 0 0 (tA m) := by
  refine yM_of (own := RX4) (by decide +kernel) rfl (Nat.le_of_ble_eq_true rfl) (fun H h => h.az) fun E hE hW ls hl hin => ?_
  obtain ⟨Q, hQ⟩ : ∃ Q, Q = yEm E eI (fun vr H => vr = e_r (tGo g (o_adds B n r c_ q)) (tThr (tBy (o_adds B n r c_ q)) 1 2 3) ∧ tW z D m (e_g (tGo g (o_adds B n r c_ q)) (tThr (tBy (o_adds B n r c_ q)) 1 2 3) c) (e_B (tBo B (o_adds B n r c_ q)) (sRow Bs 10 B) (tThr (tBy (o_adds B n r c_ q)) 1 2 3)) (e_Bs (sRow Bs 10 B) (tThr (tBy (o_adds B n r c_ q)) 1 2 3) c) L I C H) 0 0 (tA m) := ⟨_, rfl⟩
  rw [← hQ]
  generalize (e_s E).heap = H at hW ⊢
  have hl : lv_has ls 4 [(0, .ref (m 0)), (1, .int r), (2, .int c_), (3, .int q)] := hl
  refine y_aload_n hE dX4_addTurbine_0 rfl (lv_at hl 0 rfl) ?_
  -- call begins []
  refine y_muV (rest := []) hE cl_X4_92 kX4_begins dX4_addTurbine_1 hl (Nat.le_of_ble_eq_true rfl) (y_recv hE rfl hW.1) rfl rfl (Nat.le_of_ble_eq_true rfl) hW (fun _ h => h) ⟨(Nat.le_of_ble_eq_true rfl), (Nat.le_of_ble_eq_true rfl)⟩ (fun vr H hW _ _ => ?_)
  have hW : tW z D m g B (sRow Bs 10 B) L I C H := hW
  refine y_st (st' := []) rfl ?_
  refine y_aload_n hE dX4_addTurbine_4 rfl (lv_at hl 0 rfl) ?_
  refine y_aload_n hE dX4_addTurbine_5 rfl (lv_at hl 0 rfl) ?_
  refine y_iload_n hE dX4_addTurbine_6 rfl (lv_at hl 1 rfl) ?_
  refine y_iload_n hE dX4_addTurbine_7 rfl (lv_at hl 2 rfl) ?_
  refine y_iload_n hE dX4_addTurbine_8 rfl (lv_at hl 3 rfl) ?_
  -- call adds ['r', 'c_', 'q']
  refine y_muV (rest := [.ref (m 0)]) hE cl_X4_95 (kX4_adds n r c_ q hn hN) dX4_addTurbine_9 hl (Nat.le_of_ble_eq_true rfl) (y_recv hE rfl hW.1) rfl rfl (Nat.le_of_ble_eq_true rfl) hW (fun _ h => h) ⟨(Nat.le_of_ble_eq_true rfl), (Nat.le_of_ble_eq_true rfl)⟩ (fun vr H hW _ _ => ?_)
  obtain ⟨hr, hW⟩ := hW
  subst hr
  have hW : tW z D m (tGo g (o_adds B n r c_ q)) (tBo B (o_adds B n r c_ q)) (sRow Bs 10 B) L I C H := hW
  refine y_st (st' := [.int (tBy (o_adds B n r c_ q)), .ref (m 0)]) rfl ?_
  refine y_iconst (v := 1) hE dX4_addTurbine_12 (by decide) ?_
  refine y_iconst (v := 2) hE dX4_addTurbine_13 (by decide) ?_
  refine y_iconst (v := 3) hE dX4_addTurbine_14 (by decide) ?_
  -- call ends ['tBy (o_adds B n r c_ q)', '1', '2', '3']
  refine y_muV (rest := []) hE cl_X4_99 (kX4_ends c (tBy (o_adds B n r c_ q)) 1 2 3 ((tGo_2 _ _).trans hc) hC) dX4_addTurbine_15 hl (Nat.le_of_ble_eq_true rfl) (y_recv hE rfl hW.1) rfl rfl (Nat.le_of_ble_eq_true rfl) hW (fun _ h => h) ⟨(Nat.le_of_ble_eq_true rfl), (Nat.le_of_ble_eq_true rfl)⟩ (fun vr H hW _ _ => ?_)
  obtain ⟨hr, hW⟩ := hW
  subst hr
  have hW : tW z D m (e_g (tGo g (o_adds B n r c_ q)) (tThr (tBy (o_adds B n r c_ q)) 1 2 3) c) (e_B (tBo B (o_adds B n r c_ q)) (sRow Bs 10 B) (tThr (tBy (o_adds B n r c_ q)) 1 2 3)) (e_Bs (sRow Bs 10 B) (tThr (tBy (o_adds B n r c_ q)) 1 2 3) c) L I C H := hW
  refine y_st (st' := [.int (e_r (tGo g (o_adds B n r c_ q)) (tThr (tBy (o_adds B n r c_ q)) 1 2 3))]) rfl ?_
  rw [hQ]
  exact y_iret hE dX4_addTurbine_18 ⟨rfl, hW.cast rfl rfl rfl rfl rfl rfl⟩ (Nat.le_of_ble_eq_true rfl) (Nat.le_of_ble_eq_true rfl)

set_option maxHeartbeats 1000000 in
theorem kX4_fail {z : State} {D : yD} {m : Nat → Nat} {g B : Nat → Int32} {Bs : Nat → Nat → Int32} {L I C : Nat → Int32} (n : Nat) (c : Nat) (x : Int32) (hn : B 0 = nI n) (hN : n ≤ 12) (hc : g 2 = nI c) (hC : c ≤ 8) : yM yX4_fail (ws_ yX4_fail cX4_fail 2 (some .int)) (rmD 10 0 0) z D [.ref (m 0), .int x] (tW z D m g B Bs L I C) eI (fun vr H => vr = e_r (tGo g (o_fails B n x)) (tThr (tBy (o_fails B n x)) 1 0 2) ∧ tW z D m (e_g (tGo g (o_fails B n x)) (tThr (tBy (o_fails B n x)) 1 0 2) c) (e_B (tBo B (o_fails B n x)) (sRow Bs 10 B) (tThr (tBy (o_fails B n x)) 1 0 2)) (e_Bs (sRow Bs 10 B) (tThr (tBy (o_fails B n x)) 1 0 2) c) L I C H) 0 0 (tA m) := by
  refine yM_of (own := RX4) (by decide +kernel) rfl (Nat.le_of_ble_eq_true rfl) (fun H h => h.az) fun E hE hW ls hl hin => ?_
  obtain ⟨Q, hQ⟩ : ∃ Q, Q = yEm E eI (fun vr H => vr = e_r (tGo g (o_fails B n x)) (tThr (tBy (o_fails B n x)) 1 0 2) ∧ tW z D m (e_g (tGo g (o_fails B n x)) (tThr (tBy (o_fails B n x)) 1 0 2) c) (e_B (tBo B (o_fails B n x)) (sRow Bs 10 B) (tThr (tBy (o_fails B n x)) 1 0 2)) (e_Bs (sRow Bs 10 B) (tThr (tBy (o_fails B n x)) 1 0 2) c) L I C H) 0 0 (tA m) := ⟨_, rfl⟩
  rw [← hQ]
  generalize (e_s E).heap = H at hW ⊢
  have hl : lv_has ls 2 [(0, .ref (m 0)), (1, .int x)] := hl
  refine y_aload_n hE dX4_fail_0 rfl (lv_at hl 0 rfl) ?_
  -- call begins []
  refine y_muV (rest := []) hE cl_X4_92 kX4_begins dX4_fail_1 hl (Nat.le_of_ble_eq_true rfl) (y_recv hE rfl hW.1) rfl rfl (Nat.le_of_ble_eq_true rfl) hW (fun _ h => h) ⟨(Nat.le_of_ble_eq_true rfl), (Nat.le_of_ble_eq_true rfl)⟩ (fun vr H hW _ _ => ?_)
  have hW : tW z D m g B (sRow Bs 10 B) L I C H := hW
  refine y_st (st' := []) rfl ?_
  refine y_aload_n hE dX4_fail_4 rfl (lv_at hl 0 rfl) ?_
  refine y_aload_n hE dX4_fail_5 rfl (lv_at hl 0 rfl) ?_
  refine y_iload_n hE dX4_fail_6 rfl (lv_at hl 1 rfl) ?_
  -- call fails ['x']
  refine y_muV (rest := [.ref (m 0)]) hE cl_X4_110 (kX4_fails n x hn hN) dX4_fail_7 hl (Nat.le_of_ble_eq_true rfl) (y_recv hE rfl hW.1) rfl rfl (Nat.le_of_ble_eq_true rfl) hW (fun _ h => h) ⟨(Nat.le_of_ble_eq_true rfl), (Nat.le_of_ble_eq_true rfl)⟩ (fun vr H hW _ _ => ?_)
  obtain ⟨hr, hW⟩ := hW
  subst hr
  have hW : tW z D m (tGo g (o_fails B n x)) (tBo B (o_fails B n x)) (sRow Bs 10 B) L I C H := hW
  refine y_st (st' := [.int (tBy (o_fails B n x)), .ref (m 0)]) rfl ?_
  refine y_iconst (v := 1) hE dX4_fail_10 (by decide) ?_
  refine y_iconst (v := 0) hE dX4_fail_11 (by decide) ?_
  refine y_iconst (v := 2) hE dX4_fail_12 (by decide) ?_
  -- call ends ['tBy (o_fails B n x)', '1', '0', '2']
  refine y_muV (rest := []) hE cl_X4_99 (kX4_ends c (tBy (o_fails B n x)) 1 0 2 ((tGo_2 _ _).trans hc) hC) dX4_fail_13 hl (Nat.le_of_ble_eq_true rfl) (y_recv hE rfl hW.1) rfl rfl (Nat.le_of_ble_eq_true rfl) hW (fun _ h => h) ⟨(Nat.le_of_ble_eq_true rfl), (Nat.le_of_ble_eq_true rfl)⟩ (fun vr H hW _ _ => ?_)
  obtain ⟨hr, hW⟩ := hW
  subst hr
  have hW : tW z D m (e_g (tGo g (o_fails B n x)) (tThr (tBy (o_fails B n x)) 1 0 2) c) (e_B (tBo B (o_fails B n x)) (sRow Bs 10 B) (tThr (tBy (o_fails B n x)) 1 0 2)) (e_Bs (sRow Bs 10 B) (tThr (tBy (o_fails B n x)) 1 0 2) c) L I C H := hW
  refine y_st (st' := [.int (e_r (tGo g (o_fails B n x)) (tThr (tBy (o_fails B n x)) 1 0 2))]) rfl ?_
  rw [hQ]
  exact y_iret hE dX4_fail_16 ⟨rfl, hW.cast rfl rfl rfl rfl rfl rfl⟩ (Nat.le_of_ble_eq_true rfl) (Nat.le_of_ble_eq_true rfl)

set_option maxHeartbeats 1000000 in
theorem kX4_sendCrew {z : State} {D : yD} {m : Nat → Nat} {g B : Nat → Int32} {Bs : Nat → Nat → Int32} {L I C : Nat → Int32} (n : Nat) (c : Nat) (x : Int32) (h : Int32) (hn : B 0 = nI n) (hN : n ≤ 12) (hc : g 2 = nI c) (hC : c ≤ 8) : yM yX4_sendCrew (ws_ yX4_sendCrew cX4_sendCrew 3 (some .int)) (rmD 10 0 0) z D [.ref (m 0), .int x, .int h] (tW z D m g B Bs L I C) eI (fun vr H => vr = e_r (tGo g (o_sends B n x h)) (tThr (tBy (o_sends B n x h)) 1 2 3) ∧ tW z D m (e_g (tGo g (o_sends B n x h)) (tThr (tBy (o_sends B n x h)) 1 2 3) c) (e_B (tBo B (o_sends B n x h)) (sRow Bs 10 B) (tThr (tBy (o_sends B n x h)) 1 2 3)) (e_Bs (sRow Bs 10 B) (tThr (tBy (o_sends B n x h)) 1 2 3) c) L I C H) 0 0 (tA m) := by
  refine yM_of (own := RX4) (by decide +kernel) rfl (Nat.le_of_ble_eq_true rfl) (fun H h => h.az) fun E hE hW ls hl hin => ?_
  obtain ⟨Q, hQ⟩ : ∃ Q, Q = yEm E eI (fun vr H => vr = e_r (tGo g (o_sends B n x h)) (tThr (tBy (o_sends B n x h)) 1 2 3) ∧ tW z D m (e_g (tGo g (o_sends B n x h)) (tThr (tBy (o_sends B n x h)) 1 2 3) c) (e_B (tBo B (o_sends B n x h)) (sRow Bs 10 B) (tThr (tBy (o_sends B n x h)) 1 2 3)) (e_Bs (sRow Bs 10 B) (tThr (tBy (o_sends B n x h)) 1 2 3) c) L I C H) 0 0 (tA m) := ⟨_, rfl⟩
  rw [← hQ]
  generalize (e_s E).heap = H at hW ⊢
  have hl : lv_has ls 3 [(0, .ref (m 0)), (1, .int x), (2, .int h)] := hl
  refine y_aload_n hE dX4_sendCrew_0 rfl (lv_at hl 0 rfl) ?_
  -- call begins []
  refine y_muV (rest := []) hE cl_X4_92 kX4_begins dX4_sendCrew_1 hl (Nat.le_of_ble_eq_true rfl) (y_recv hE rfl hW.1) rfl rfl (Nat.le_of_ble_eq_true rfl) hW (fun _ h => h) ⟨(Nat.le_of_ble_eq_true rfl), (Nat.le_of_ble_eq_true rfl)⟩ (fun vr H hW _ _ => ?_)
  have hW : tW z D m g B (sRow Bs 10 B) L I C H := hW
  refine y_st (st' := []) rfl ?_
  refine y_aload_n hE dX4_sendCrew_4 rfl (lv_at hl 0 rfl) ?_
  refine y_aload_n hE dX4_sendCrew_5 rfl (lv_at hl 0 rfl) ?_
  refine y_iload_n hE dX4_sendCrew_6 rfl (lv_at hl 1 rfl) ?_
  refine y_iload_n hE dX4_sendCrew_7 rfl (lv_at hl 2 rfl) ?_
  -- call sends ['x', 'h']
  refine y_muV (rest := [.ref (m 0)]) hE cl_X4_117 (kX4_sends n x h hn hN) dX4_sendCrew_8 hl (Nat.le_of_ble_eq_true rfl) (y_recv hE rfl hW.1) rfl rfl (Nat.le_of_ble_eq_true rfl) hW (fun _ h => h) ⟨(Nat.le_of_ble_eq_true rfl), (Nat.le_of_ble_eq_true rfl)⟩ (fun vr H hW _ _ => ?_)
  obtain ⟨hr, hW⟩ := hW
  subst hr
  have hW : tW z D m (tGo g (o_sends B n x h)) (tBo B (o_sends B n x h)) (sRow Bs 10 B) L I C H := hW
  refine y_st (st' := [.int (tBy (o_sends B n x h)), .ref (m 0)]) rfl ?_
  refine y_iconst (v := 1) hE dX4_sendCrew_11 (by decide) ?_
  refine y_iconst (v := 2) hE dX4_sendCrew_12 (by decide) ?_
  refine y_iconst (v := 3) hE dX4_sendCrew_13 (by decide) ?_
  -- call ends ['tBy (o_sends B n x h)', '1', '2', '3']
  refine y_muV (rest := []) hE cl_X4_99 (kX4_ends c (tBy (o_sends B n x h)) 1 2 3 ((tGo_2 _ _).trans hc) hC) dX4_sendCrew_14 hl (Nat.le_of_ble_eq_true rfl) (y_recv hE rfl hW.1) rfl rfl (Nat.le_of_ble_eq_true rfl) hW (fun _ h => h) ⟨(Nat.le_of_ble_eq_true rfl), (Nat.le_of_ble_eq_true rfl)⟩ (fun vr H hW _ _ => ?_)
  obtain ⟨hr, hW⟩ := hW
  subst hr
  have hW : tW z D m (e_g (tGo g (o_sends B n x h)) (tThr (tBy (o_sends B n x h)) 1 2 3) c) (e_B (tBo B (o_sends B n x h)) (sRow Bs 10 B) (tThr (tBy (o_sends B n x h)) 1 2 3)) (e_Bs (sRow Bs 10 B) (tThr (tBy (o_sends B n x h)) 1 2 3) c) L I C H := hW
  refine y_st (st' := [.int (e_r (tGo g (o_sends B n x h)) (tThr (tBy (o_sends B n x h)) 1 2 3))]) rfl ?_
  rw [hQ]
  exact y_iret hE dX4_sendCrew_17 ⟨rfl, hW.cast rfl rfl rfl rfl rfl rfl⟩ (Nat.le_of_ble_eq_true rfl) (Nat.le_of_ble_eq_true rfl)

set_option maxHeartbeats 1000000 in
theorem kX4_recallCrew {z : State} {D : yD} {m : Nat → Nat} {g B : Nat → Int32} {Bs : Nat → Nat → Int32} {L I C : Nat → Int32} (n : Nat) (c : Nat) (x : Int32) (hn : B 0 = nI n) (hN : n ≤ 12) (hc : g 2 = nI c) (hC : c ≤ 8) : yM yX4_recallCrew (ws_ yX4_recallCrew cX4_recallCrew 2 (some .int)) (rmD 10 0 0) z D [.ref (m 0), .int x] (tW z D m g B Bs L I C) eI (fun vr H => vr = e_r (tGo g (o_recalls B n x)) (tThr (tBy (o_recalls B n x)) 1 0 2) ∧ tW z D m (e_g (tGo g (o_recalls B n x)) (tThr (tBy (o_recalls B n x)) 1 0 2) c) (e_B (tBo B (o_recalls B n x)) (sRow Bs 10 B) (tThr (tBy (o_recalls B n x)) 1 0 2)) (e_Bs (sRow Bs 10 B) (tThr (tBy (o_recalls B n x)) 1 0 2) c) L I C H) 0 0 (tA m) := by
  refine yM_of (own := RX4) (by decide +kernel) rfl (Nat.le_of_ble_eq_true rfl) (fun H h => h.az) fun E hE hW ls hl hin => ?_
  obtain ⟨Q, hQ⟩ : ∃ Q, Q = yEm E eI (fun vr H => vr = e_r (tGo g (o_recalls B n x)) (tThr (tBy (o_recalls B n x)) 1 0 2) ∧ tW z D m (e_g (tGo g (o_recalls B n x)) (tThr (tBy (o_recalls B n x)) 1 0 2) c) (e_B (tBo B (o_recalls B n x)) (sRow Bs 10 B) (tThr (tBy (o_recalls B n x)) 1 0 2)) (e_Bs (sRow Bs 10 B) (tThr (tBy (o_recalls B n x)) 1 0 2) c) L I C H) 0 0 (tA m) := ⟨_, rfl⟩
  rw [← hQ]
  generalize (e_s E).heap = H at hW ⊢
  have hl : lv_has ls 2 [(0, .ref (m 0)), (1, .int x)] := hl
  refine y_aload_n hE dX4_recallCrew_0 rfl (lv_at hl 0 rfl) ?_
  -- call begins []
  refine y_muV (rest := []) hE cl_X4_92 kX4_begins dX4_recallCrew_1 hl (Nat.le_of_ble_eq_true rfl) (y_recv hE rfl hW.1) rfl rfl (Nat.le_of_ble_eq_true rfl) hW (fun _ h => h) ⟨(Nat.le_of_ble_eq_true rfl), (Nat.le_of_ble_eq_true rfl)⟩ (fun vr H hW _ _ => ?_)
  have hW : tW z D m g B (sRow Bs 10 B) L I C H := hW
  refine y_st (st' := []) rfl ?_
  refine y_aload_n hE dX4_recallCrew_4 rfl (lv_at hl 0 rfl) ?_
  refine y_aload_n hE dX4_recallCrew_5 rfl (lv_at hl 0 rfl) ?_
  refine y_iload_n hE dX4_recallCrew_6 rfl (lv_at hl 1 rfl) ?_
  -- call recalls ['x']
  refine y_muV (rest := [.ref (m 0)]) hE cl_X4_120 (kX4_recalls n x hn hN) dX4_recallCrew_7 hl (Nat.le_of_ble_eq_true rfl) (y_recv hE rfl hW.1) rfl rfl (Nat.le_of_ble_eq_true rfl) hW (fun _ h => h) ⟨(Nat.le_of_ble_eq_true rfl), (Nat.le_of_ble_eq_true rfl)⟩ (fun vr H hW _ _ => ?_)
  obtain ⟨hr, hW⟩ := hW
  subst hr
  have hW : tW z D m (tGo g (o_recalls B n x)) (tBo B (o_recalls B n x)) (sRow Bs 10 B) L I C H := hW
  refine y_st (st' := [.int (tBy (o_recalls B n x)), .ref (m 0)]) rfl ?_
  refine y_iconst (v := 1) hE dX4_recallCrew_10 (by decide) ?_
  refine y_iconst (v := 0) hE dX4_recallCrew_11 (by decide) ?_
  refine y_iconst (v := 2) hE dX4_recallCrew_12 (by decide) ?_
  -- call ends ['tBy (o_recalls B n x)', '1', '0', '2']
  refine y_muV (rest := []) hE cl_X4_99 (kX4_ends c (tBy (o_recalls B n x)) 1 0 2 ((tGo_2 _ _).trans hc) hC) dX4_recallCrew_13 hl (Nat.le_of_ble_eq_true rfl) (y_recv hE rfl hW.1) rfl rfl (Nat.le_of_ble_eq_true rfl) hW (fun _ h => h) ⟨(Nat.le_of_ble_eq_true rfl), (Nat.le_of_ble_eq_true rfl)⟩ (fun vr H hW _ _ => ?_)
  obtain ⟨hr, hW⟩ := hW
  subst hr
  have hW : tW z D m (e_g (tGo g (o_recalls B n x)) (tThr (tBy (o_recalls B n x)) 1 0 2) c) (e_B (tBo B (o_recalls B n x)) (sRow Bs 10 B) (tThr (tBy (o_recalls B n x)) 1 0 2)) (e_Bs (sRow Bs 10 B) (tThr (tBy (o_recalls B n x)) 1 0 2) c) L I C H := hW
  refine y_st (st' := [.int (e_r (tGo g (o_recalls B n x)) (tThr (tBy (o_recalls B n x)) 1 0 2))]) rfl ?_
  rw [hQ]
  exact y_iret hE dX4_recallCrew_16 ⟨rfl, hW.cast rfl rfl rfl rfl rfl rfl⟩ (Nat.le_of_ble_eq_true rfl) (Nat.le_of_ble_eq_true rfl)

set_option maxHeartbeats 1000000 in
theorem kX4_curtail {z : State} {D : yD} {m : Nat → Nat} {g B : Nat → Int32} {Bs : Nat → Nat → Int32} {L I C : Nat → Int32} (n : Nat) (c : Nat) (x : Int32) (l : Int32) (hn : B 0 = nI n) (hN : n ≤ 12) (hc : g 2 = nI c) (hC : c ≤ 8) : yM yX4_curtail (ws_ yX4_curtail cX4_curtail 3 (some .int)) (rmD 10 0 0) z D [.ref (m 0), .int x, .int l] (tW z D m g B Bs L I C) eI (fun vr H => vr = e_r (tGo g (o_curtails B n x l)) (tThr (tBy (o_curtails B n x l)) 1 2 3) ∧ tW z D m (e_g (tGo g (o_curtails B n x l)) (tThr (tBy (o_curtails B n x l)) 1 2 3) c) (e_B (tBo B (o_curtails B n x l)) (sRow Bs 10 B) (tThr (tBy (o_curtails B n x l)) 1 2 3)) (e_Bs (sRow Bs 10 B) (tThr (tBy (o_curtails B n x l)) 1 2 3) c) L I C H) 0 0 (tA m) := by
  refine yM_of (own := RX4) (by decide +kernel) rfl (Nat.le_of_ble_eq_true rfl) (fun H h => h.az) fun E hE hW ls hl hin => ?_
  obtain ⟨Q, hQ⟩ : ∃ Q, Q = yEm E eI (fun vr H => vr = e_r (tGo g (o_curtails B n x l)) (tThr (tBy (o_curtails B n x l)) 1 2 3) ∧ tW z D m (e_g (tGo g (o_curtails B n x l)) (tThr (tBy (o_curtails B n x l)) 1 2 3) c) (e_B (tBo B (o_curtails B n x l)) (sRow Bs 10 B) (tThr (tBy (o_curtails B n x l)) 1 2 3)) (e_Bs (sRow Bs 10 B) (tThr (tBy (o_curtails B n x l)) 1 2 3) c) L I C H) 0 0 (tA m) := ⟨_, rfl⟩
  rw [← hQ]
  generalize (e_s E).heap = H at hW ⊢
  have hl : lv_has ls 3 [(0, .ref (m 0)), (1, .int x), (2, .int l)] := hl
  refine y_aload_n hE dX4_curtail_0 rfl (lv_at hl 0 rfl) ?_
  -- call begins []
  refine y_muV (rest := []) hE cl_X4_92 kX4_begins dX4_curtail_1 hl (Nat.le_of_ble_eq_true rfl) (y_recv hE rfl hW.1) rfl rfl (Nat.le_of_ble_eq_true rfl) hW (fun _ h => h) ⟨(Nat.le_of_ble_eq_true rfl), (Nat.le_of_ble_eq_true rfl)⟩ (fun vr H hW _ _ => ?_)
  have hW : tW z D m g B (sRow Bs 10 B) L I C H := hW
  refine y_st (st' := []) rfl ?_
  refine y_aload_n hE dX4_curtail_4 rfl (lv_at hl 0 rfl) ?_
  refine y_aload_n hE dX4_curtail_5 rfl (lv_at hl 0 rfl) ?_
  refine y_iload_n hE dX4_curtail_6 rfl (lv_at hl 1 rfl) ?_
  refine y_iload_n hE dX4_curtail_7 rfl (lv_at hl 2 rfl) ?_
  -- call curtails ['x', 'l']
  refine y_muV (rest := [.ref (m 0)]) hE cl_X4_123 (kX4_curtails n x l hn hN) dX4_curtail_8 hl (Nat.le_of_ble_eq_true rfl) (y_recv hE rfl hW.1) rfl rfl (Nat.le_of_ble_eq_true rfl) hW (fun _ h => h) ⟨(Nat.le_of_ble_eq_true rfl), (Nat.le_of_ble_eq_true rfl)⟩ (fun vr H hW _ _ => ?_)
  obtain ⟨hr, hW⟩ := hW
  subst hr
  have hW : tW z D m (tGo g (o_curtails B n x l)) (tBo B (o_curtails B n x l)) (sRow Bs 10 B) L I C H := hW
  refine y_st (st' := [.int (tBy (o_curtails B n x l)), .ref (m 0)]) rfl ?_
  refine y_iconst (v := 1) hE dX4_curtail_11 (by decide) ?_
  refine y_iconst (v := 2) hE dX4_curtail_12 (by decide) ?_
  refine y_iconst (v := 3) hE dX4_curtail_13 (by decide) ?_
  -- call ends ['tBy (o_curtails B n x l)', '1', '2', '3']
  refine y_muV (rest := []) hE cl_X4_99 (kX4_ends c (tBy (o_curtails B n x l)) 1 2 3 ((tGo_2 _ _).trans hc) hC) dX4_curtail_14 hl (Nat.le_of_ble_eq_true rfl) (y_recv hE rfl hW.1) rfl rfl (Nat.le_of_ble_eq_true rfl) hW (fun _ h => h) ⟨(Nat.le_of_ble_eq_true rfl), (Nat.le_of_ble_eq_true rfl)⟩ (fun vr H hW _ _ => ?_)
  obtain ⟨hr, hW⟩ := hW
  subst hr
  have hW : tW z D m (e_g (tGo g (o_curtails B n x l)) (tThr (tBy (o_curtails B n x l)) 1 2 3) c) (e_B (tBo B (o_curtails B n x l)) (sRow Bs 10 B) (tThr (tBy (o_curtails B n x l)) 1 2 3)) (e_Bs (sRow Bs 10 B) (tThr (tBy (o_curtails B n x l)) 1 2 3) c) L I C H := hW
  refine y_st (st' := [.int (e_r (tGo g (o_curtails B n x l)) (tThr (tBy (o_curtails B n x l)) 1 2 3))]) rfl ?_
  rw [hQ]
  exact y_iret hE dX4_curtail_17 ⟨rfl, hW.cast rfl rfl rfl rfl rfl rfl⟩ (Nat.le_of_ble_eq_true rfl) (Nat.le_of_ble_eq_true rfl)

set_option maxHeartbeats 1000000 in
theorem kX4_release {z : State} {D : yD} {m : Nat → Nat} {g B : Nat → Int32} {Bs : Nat → Nat → Int32} {L I C : Nat → Int32} (n : Nat) (c : Nat) (x : Int32) (hn : B 0 = nI n) (hN : n ≤ 12) (hc : g 2 = nI c) (hC : c ≤ 8) : yM yX4_release (ws_ yX4_release cX4_release 2 (some .int)) (rmD 10 0 0) z D [.ref (m 0), .int x] (tW z D m g B Bs L I C) eI (fun vr H => vr = e_r (tGo g (o_releases B n x)) (tThr (tBy (o_releases B n x)) 1 0 2) ∧ tW z D m (e_g (tGo g (o_releases B n x)) (tThr (tBy (o_releases B n x)) 1 0 2) c) (e_B (tBo B (o_releases B n x)) (sRow Bs 10 B) (tThr (tBy (o_releases B n x)) 1 0 2)) (e_Bs (sRow Bs 10 B) (tThr (tBy (o_releases B n x)) 1 0 2) c) L I C H) 0 0 (tA m) := by
  refine yM_of (own := RX4) (by decide +kernel) rfl (Nat.le_of_ble_eq_true rfl) (fun H h => h.az) fun E hE hW ls hl hin => ?_
  obtain ⟨Q, hQ⟩ : ∃ Q, Q = yEm E eI (fun vr H => vr = e_r (tGo g (o_releases B n x)) (tThr (tBy (o_releases B n x)) 1 0 2) ∧ tW z D m (e_g (tGo g (o_releases B n x)) (tThr (tBy (o_releases B n x)) 1 0 2) c) (e_B (tBo B (o_releases B n x)) (sRow Bs 10 B) (tThr (tBy (o_releases B n x)) 1 0 2)) (e_Bs (sRow Bs 10 B) (tThr (tBy (o_releases B n x)) 1 0 2) c) L I C H) 0 0 (tA m) := ⟨_, rfl⟩
  rw [← hQ]
  generalize (e_s E).heap = H at hW ⊢
  have hl : lv_has ls 2 [(0, .ref (m 0)), (1, .int x)] := hl
  refine y_aload_n hE dX4_release_0 rfl (lv_at hl 0 rfl) ?_
  -- call begins []
  refine y_muV (rest := []) hE cl_X4_92 kX4_begins dX4_release_1 hl (Nat.le_of_ble_eq_true rfl) (y_recv hE rfl hW.1) rfl rfl (Nat.le_of_ble_eq_true rfl) hW (fun _ h => h) ⟨(Nat.le_of_ble_eq_true rfl), (Nat.le_of_ble_eq_true rfl)⟩ (fun vr H hW _ _ => ?_)
  have hW : tW z D m g B (sRow Bs 10 B) L I C H := hW
  refine y_st (st' := []) rfl ?_
  refine y_aload_n hE dX4_release_4 rfl (lv_at hl 0 rfl) ?_
  refine y_aload_n hE dX4_release_5 rfl (lv_at hl 0 rfl) ?_
  refine y_iload_n hE dX4_release_6 rfl (lv_at hl 1 rfl) ?_
  -- call releases ['x']
  refine y_muV (rest := [.ref (m 0)]) hE cl_X4_126 (kX4_releases n x hn hN) dX4_release_7 hl (Nat.le_of_ble_eq_true rfl) (y_recv hE rfl hW.1) rfl rfl (Nat.le_of_ble_eq_true rfl) hW (fun _ h => h) ⟨(Nat.le_of_ble_eq_true rfl), (Nat.le_of_ble_eq_true rfl)⟩ (fun vr H hW _ _ => ?_)
  obtain ⟨hr, hW⟩ := hW
  subst hr
  have hW : tW z D m (tGo g (o_releases B n x)) (tBo B (o_releases B n x)) (sRow Bs 10 B) L I C H := hW
  refine y_st (st' := [.int (tBy (o_releases B n x)), .ref (m 0)]) rfl ?_
  refine y_iconst (v := 1) hE dX4_release_10 (by decide) ?_
  refine y_iconst (v := 0) hE dX4_release_11 (by decide) ?_
  refine y_iconst (v := 2) hE dX4_release_12 (by decide) ?_
  -- call ends ['tBy (o_releases B n x)', '1', '0', '2']
  refine y_muV (rest := []) hE cl_X4_99 (kX4_ends c (tBy (o_releases B n x)) 1 0 2 ((tGo_2 _ _).trans hc) hC) dX4_release_13 hl (Nat.le_of_ble_eq_true rfl) (y_recv hE rfl hW.1) rfl rfl (Nat.le_of_ble_eq_true rfl) hW (fun _ h => h) ⟨(Nat.le_of_ble_eq_true rfl), (Nat.le_of_ble_eq_true rfl)⟩ (fun vr H hW _ _ => ?_)
  obtain ⟨hr, hW⟩ := hW
  subst hr
  have hW : tW z D m (e_g (tGo g (o_releases B n x)) (tThr (tBy (o_releases B n x)) 1 0 2) c) (e_B (tBo B (o_releases B n x)) (sRow Bs 10 B) (tThr (tBy (o_releases B n x)) 1 0 2)) (e_Bs (sRow Bs 10 B) (tThr (tBy (o_releases B n x)) 1 0 2) c) L I C H := hW
  refine y_st (st' := [.int (e_r (tGo g (o_releases B n x)) (tThr (tBy (o_releases B n x)) 1 0 2))]) rfl ?_
  rw [hQ]
  exact y_iret hE dX4_release_16 ⟨rfl, hW.cast rfl rfl rfl rfl rfl rfl⟩ (Nat.le_of_ble_eq_true rfl) (Nat.le_of_ble_eq_true rfl)

set_option maxHeartbeats 1000000 in
theorem kX4_setWind {z : State} {D : yD} {m : Nat → Nat} {g B : Nat → Int32} {Bs : Nat → Nat → Int32} {L I C : Nat → Int32} (n : Nat) (c : Nat) (w : Int32) (s : Int32) (hn : B 0 = nI n) (hN : n ≤ 12) (hc : g 2 = nI c) (hC : c ≤ 8) : yM yX4_setWind (ws_ yX4_setWind cX4_setWind 3 (some .int)) (rmD 10 0 0) z D [.ref (m 0), .int w, .int s] (tW z D m g B Bs L I C) eI (fun vr H => vr = e_r (tGo g (o_blows B n (m_way w) s)) (tThr (tBy (o_blows B n (m_way w) s)) 0 1 0) ∧ tW z D m (e_g (tGo g (o_blows B n (m_way w) s)) (tThr (tBy (o_blows B n (m_way w) s)) 0 1 0) c) (e_B (tBo B (o_blows B n (m_way w) s)) (sRow Bs 10 B) (tThr (tBy (o_blows B n (m_way w) s)) 0 1 0)) (e_Bs (sRow Bs 10 B) (tThr (tBy (o_blows B n (m_way w) s)) 0 1 0) c) L I C H) 0 0 (tA m) := by
  refine yM_of (own := RX4) (by decide +kernel) rfl (Nat.le_of_ble_eq_true rfl) (fun H h => h.az) fun E hE hW ls hl hin => ?_
  obtain ⟨Q, hQ⟩ : ∃ Q, Q = yEm E eI (fun vr H => vr = e_r (tGo g (o_blows B n (m_way w) s)) (tThr (tBy (o_blows B n (m_way w) s)) 0 1 0) ∧ tW z D m (e_g (tGo g (o_blows B n (m_way w) s)) (tThr (tBy (o_blows B n (m_way w) s)) 0 1 0) c) (e_B (tBo B (o_blows B n (m_way w) s)) (sRow Bs 10 B) (tThr (tBy (o_blows B n (m_way w) s)) 0 1 0)) (e_Bs (sRow Bs 10 B) (tThr (tBy (o_blows B n (m_way w) s)) 0 1 0) c) L I C H) 0 0 (tA m) := ⟨_, rfl⟩
  rw [← hQ]
  generalize (e_s E).heap = H at hW ⊢
  have hl : lv_has ls 3 [(0, .ref (m 0)), (1, .int w), (2, .int s)] := hl
  refine y_aload_n hE dX4_setWind_0 rfl (lv_at hl 0 rfl) ?_
  -- call begins []
  refine y_muV (rest := []) hE cl_X4_92 kX4_begins dX4_setWind_1 hl (Nat.le_of_ble_eq_true rfl) (y_recv hE rfl hW.1) rfl rfl (Nat.le_of_ble_eq_true rfl) hW (fun _ h => h) ⟨(Nat.le_of_ble_eq_true rfl), (Nat.le_of_ble_eq_true rfl)⟩ (fun vr H hW _ _ => ?_)
  have hW : tW z D m g B (sRow Bs 10 B) L I C H := hW
  refine y_st (st' := []) rfl ?_
  refine y_aload_n hE dX4_setWind_4 rfl (lv_at hl 0 rfl) ?_
  refine y_aload_n hE dX4_setWind_5 rfl (lv_at hl 0 rfl) ?_
  refine y_iload_n hE dX4_setWind_6 rfl (lv_at hl 1 rfl) ?_
  -- call wayOf ['w']
  refine y_roS (rest := [.ref (m 0), .ref (m 0)]) hE cl_X4_132 (kX4_wayOf w) dX4_setWind_7 hl (Nat.le_of_ble_eq_true rfl) rfl rfl (Nat.le_of_ble_eq_true rfl) trivial ⟨(Nat.le_of_ble_eq_true rfl), (Nat.le_of_ble_eq_true rfl)⟩ ?_
  refine y_iload_n hE dX4_setWind_10 rfl (lv_at hl 2 rfl) ?_
  -- call blows ['m_way w', 's']
  refine y_muV (rest := [.ref (m 0)]) hE cl_X4_135 (kX4_blows n (m_way w) s hn hN) dX4_setWind_11 hl (Nat.le_of_ble_eq_true rfl) (y_recv hE rfl hW.1) rfl rfl (Nat.le_of_ble_eq_true rfl) hW (fun _ h => h) ⟨(Nat.le_of_ble_eq_true rfl), (Nat.le_of_ble_eq_true rfl)⟩ (fun vr H hW _ _ => ?_)
  obtain ⟨hr, hW⟩ := hW
  subst hr
  have hW : tW z D m (tGo g (o_blows B n (m_way w) s)) (tBo B (o_blows B n (m_way w) s)) (sRow Bs 10 B) L I C H := hW
  refine y_st (st' := [.int (tBy (o_blows B n (m_way w) s)), .ref (m 0)]) rfl ?_
  refine y_iconst (v := 0) hE dX4_setWind_14 (by decide) ?_
  refine y_iconst (v := 1) hE dX4_setWind_15 (by decide) ?_
  refine y_iconst (v := 0) hE dX4_setWind_16 (by decide) ?_
  -- call ends ['tBy (o_blows B n (m_way w) s)', '0', '1', '0']
  refine y_muV (rest := []) hE cl_X4_99 (kX4_ends c (tBy (o_blows B n (m_way w) s)) 0 1 0 ((tGo_2 _ _).trans hc) hC) dX4_setWind_17 hl (Nat.le_of_ble_eq_true rfl) (y_recv hE rfl hW.1) rfl rfl (Nat.le_of_ble_eq_true rfl) hW (fun _ h => h) ⟨(Nat.le_of_ble_eq_true rfl), (Nat.le_of_ble_eq_true rfl)⟩ (fun vr H hW _ _ => ?_)
  obtain ⟨hr, hW⟩ := hW
  subst hr
  have hW : tW z D m (e_g (tGo g (o_blows B n (m_way w) s)) (tThr (tBy (o_blows B n (m_way w) s)) 0 1 0) c) (e_B (tBo B (o_blows B n (m_way w) s)) (sRow Bs 10 B) (tThr (tBy (o_blows B n (m_way w) s)) 0 1 0)) (e_Bs (sRow Bs 10 B) (tThr (tBy (o_blows B n (m_way w) s)) 0 1 0) c) L I C H := hW
  refine y_st (st' := [.int (e_r (tGo g (o_blows B n (m_way w) s)) (tThr (tBy (o_blows B n (m_way w) s)) 0 1 0))]) rfl ?_
  rw [hQ]
  exact y_iret hE dX4_setWind_20 ⟨rfl, hW.cast rfl rfl rfl rfl rfl rfl⟩ (Nat.le_of_ble_eq_true rfl) (Nat.le_of_ble_eq_true rfl)

set_option maxHeartbeats 1000000 in
theorem kX4_setGridLimit {z : State} {D : yD} {m : Nat → Nat} {g B : Nat → Int32} {Bs : Nat → Nat → Int32} {L I C : Nat → Int32} (c : Nat) (l : Int32) (hc : g 2 = nI c) (hC : c ≤ 8) : yM yX4_setGridLimit (ws_ yX4_setGridLimit cX4_setGridLimit 2 (some .int)) (rmD 10 0 0) z D [.ref (m 0), .int l] (tW z D m g B Bs L I C) eI (fun vr H => vr = e_r (tGo g (o_limits B l)) (tThr (tBy (o_limits B l)) 0 1 0) ∧ tW z D m (e_g (tGo g (o_limits B l)) (tThr (tBy (o_limits B l)) 0 1 0) c) (e_B (tBo B (o_limits B l)) (sRow Bs 10 B) (tThr (tBy (o_limits B l)) 0 1 0)) (e_Bs (sRow Bs 10 B) (tThr (tBy (o_limits B l)) 0 1 0) c) L I C H) 0 0 (tA m) := by
  refine yM_of (own := RX4) (by decide +kernel) rfl (Nat.le_of_ble_eq_true rfl) (fun H h => h.az) fun E hE hW ls hl hin => ?_
  obtain ⟨Q, hQ⟩ : ∃ Q, Q = yEm E eI (fun vr H => vr = e_r (tGo g (o_limits B l)) (tThr (tBy (o_limits B l)) 0 1 0) ∧ tW z D m (e_g (tGo g (o_limits B l)) (tThr (tBy (o_limits B l)) 0 1 0) c) (e_B (tBo B (o_limits B l)) (sRow Bs 10 B) (tThr (tBy (o_limits B l)) 0 1 0)) (e_Bs (sRow Bs 10 B) (tThr (tBy (o_limits B l)) 0 1 0) c) L I C H) 0 0 (tA m) := ⟨_, rfl⟩
  rw [← hQ]
  generalize (e_s E).heap = H at hW ⊢
  have hl : lv_has ls 2 [(0, .ref (m 0)), (1, .int l)] := hl
  refine y_aload_n hE dX4_setGridLimit_0 rfl (lv_at hl 0 rfl) ?_
  -- call begins []
  refine y_muV (rest := []) hE cl_X4_92 kX4_begins dX4_setGridLimit_1 hl (Nat.le_of_ble_eq_true rfl) (y_recv hE rfl hW.1) rfl rfl (Nat.le_of_ble_eq_true rfl) hW (fun _ h => h) ⟨(Nat.le_of_ble_eq_true rfl), (Nat.le_of_ble_eq_true rfl)⟩ (fun vr H hW _ _ => ?_)
  have hW : tW z D m g B (sRow Bs 10 B) L I C H := hW
  refine y_st (st' := []) rfl ?_
  refine y_aload_n hE dX4_setGridLimit_4 rfl (lv_at hl 0 rfl) ?_
  refine y_aload_n hE dX4_setGridLimit_5 rfl (lv_at hl 0 rfl) ?_
  refine y_iload_n hE dX4_setGridLimit_6 rfl (lv_at hl 1 rfl) ?_
  -- call limits ['l']
  refine y_muV (rest := [.ref (m 0)]) hE cl_X4_138 (kX4_limits l) dX4_setGridLimit_7 hl (Nat.le_of_ble_eq_true rfl) (y_recv hE rfl hW.1) rfl rfl (Nat.le_of_ble_eq_true rfl) hW (fun _ h => h) ⟨(Nat.le_of_ble_eq_true rfl), (Nat.le_of_ble_eq_true rfl)⟩ (fun vr H hW _ _ => ?_)
  obtain ⟨hr, hW⟩ := hW
  subst hr
  have hW : tW z D m (tGo g (o_limits B l)) (tBo B (o_limits B l)) (sRow Bs 10 B) L I C H := hW
  refine y_st (st' := [.int (tBy (o_limits B l)), .ref (m 0)]) rfl ?_
  refine y_iconst (v := 0) hE dX4_setGridLimit_10 (by decide) ?_
  refine y_iconst (v := 1) hE dX4_setGridLimit_11 (by decide) ?_
  refine y_iconst (v := 0) hE dX4_setGridLimit_12 (by decide) ?_
  -- call ends ['tBy (o_limits B l)', '0', '1', '0']
  refine y_muV (rest := []) hE cl_X4_99 (kX4_ends c (tBy (o_limits B l)) 0 1 0 ((tGo_2 _ _).trans hc) hC) dX4_setGridLimit_13 hl (Nat.le_of_ble_eq_true rfl) (y_recv hE rfl hW.1) rfl rfl (Nat.le_of_ble_eq_true rfl) hW (fun _ h => h) ⟨(Nat.le_of_ble_eq_true rfl), (Nat.le_of_ble_eq_true rfl)⟩ (fun vr H hW _ _ => ?_)
  obtain ⟨hr, hW⟩ := hW
  subst hr
  have hW : tW z D m (e_g (tGo g (o_limits B l)) (tThr (tBy (o_limits B l)) 0 1 0) c) (e_B (tBo B (o_limits B l)) (sRow Bs 10 B) (tThr (tBy (o_limits B l)) 0 1 0)) (e_Bs (sRow Bs 10 B) (tThr (tBy (o_limits B l)) 0 1 0) c) L I C H := hW
  refine y_st (st' := [.int (e_r (tGo g (o_limits B l)) (tThr (tBy (o_limits B l)) 0 1 0))]) rfl ?_
  rw [hQ]
  exact y_iret hE dX4_setGridLimit_16 ⟨rfl, hW.cast rfl rfl rfl rfl rfl rfl⟩ (Nat.le_of_ble_eq_true rfl) (Nat.le_of_ble_eq_true rfl)

set_option maxHeartbeats 1000000 in
theorem kX4_dispatch {z : State} {D : yD} {m : Nat → Nat} {g B : Nat → Int32} {Bs : Nat → Nat → Int32} {L I C : Nat → Int32} (n : Nat) (q : Nat) (N : Nat) (c : Nat) (hn : B 0 = nI n) (hN : n ≤ 12) (hG : B 3 = nI q) (hq : q < 1000) (hD1 : ∀ i : Nat, i < N → 0 < m_exc (m_cuts B n i) n) (hD2 : ¬ 0 < m_exc (m_cuts B n N) n) (hc : g 2 = nI c) (hC : c ≤ 8) : yM yX4_dispatch (ws_ yX4_dispatch cX4_dispatch 1 (some .int)) (rmD 10 0 0) z D [.ref (m 0)] (tW z D m g B Bs L I C) eI (fun vr H => vr = e_r (tGo g (o_disp B n N)) (tThr (tBy (o_disp B n N)) 0 0 0) ∧ tW z D m (e_g (tGo g (o_disp B n N)) (tThr (tBy (o_disp B n N)) 0 0 0) c) (e_B (tBo B (o_disp B n N)) (sRow Bs 10 B) (tThr (tBy (o_disp B n N)) 0 0 0)) (e_Bs (sRow Bs 10 B) (tThr (tBy (o_disp B n N)) 0 0 0) c) L I C H) 0 0 (tA m) := by
  refine yM_of (own := RX4) (by decide +kernel) rfl (Nat.le_of_ble_eq_true rfl) (fun H h => h.az) fun E hE hW ls hl hin => ?_
  obtain ⟨Q, hQ⟩ : ∃ Q, Q = yEm E eI (fun vr H => vr = e_r (tGo g (o_disp B n N)) (tThr (tBy (o_disp B n N)) 0 0 0) ∧ tW z D m (e_g (tGo g (o_disp B n N)) (tThr (tBy (o_disp B n N)) 0 0 0) c) (e_B (tBo B (o_disp B n N)) (sRow Bs 10 B) (tThr (tBy (o_disp B n N)) 0 0 0)) (e_Bs (sRow Bs 10 B) (tThr (tBy (o_disp B n N)) 0 0 0) c) L I C H) 0 0 (tA m) := ⟨_, rfl⟩
  rw [← hQ]
  generalize (e_s E).heap = H at hW ⊢
  have hl : lv_has ls 1 [(0, .ref (m 0))] := hl
  refine y_aload_n hE dX4_dispatch_0 rfl (lv_at hl 0 rfl) ?_
  -- call begins []
  refine y_muV (rest := []) hE cl_X4_92 kX4_begins dX4_dispatch_1 hl (Nat.le_of_ble_eq_true rfl) (y_recv hE rfl hW.1) rfl rfl (Nat.le_of_ble_eq_true rfl) hW (fun _ h => h) ⟨(Nat.le_of_ble_eq_true rfl), (Nat.le_of_ble_eq_true rfl)⟩ (fun vr H hW _ _ => ?_)
  have hW : tW z D m g B (sRow Bs 10 B) L I C H := hW
  refine y_st (st' := []) rfl ?_
  refine y_aload_n hE dX4_dispatch_4 rfl (lv_at hl 0 rfl) ?_
  refine y_aload_n hE dX4_dispatch_5 rfl (lv_at hl 0 rfl) ?_
  -- call dispatches []
  refine y_muV (rest := [.ref (m 0)]) hE cl_X4_141 (kX4_dispatches n q N hn hN hG hq hD1 hD2) dX4_dispatch_6 hl (Nat.le_of_ble_eq_true rfl) (y_recv hE rfl hW.1) rfl rfl (Nat.le_of_ble_eq_true rfl) hW (fun _ h => h) ⟨(Nat.le_of_ble_eq_true rfl), (Nat.le_of_ble_eq_true rfl)⟩ (fun vr H hW _ _ => ?_)
  obtain ⟨hr, hW⟩ := hW
  subst hr
  have hW : tW z D m (tGo g (o_disp B n N)) (tBo B (o_disp B n N)) (sRow Bs 10 B) L I C H := hW
  refine y_st (st' := [.int (tBy (o_disp B n N)), .ref (m 0)]) rfl ?_
  refine y_iconst (v := 0) hE dX4_dispatch_9 (by decide) ?_
  refine y_iconst (v := 0) hE dX4_dispatch_10 (by decide) ?_
  refine y_iconst (v := 0) hE dX4_dispatch_11 (by decide) ?_
  -- call ends ['tBy (o_disp B n N)', '0', '0', '0']
  refine y_muV (rest := []) hE cl_X4_99 (kX4_ends c (tBy (o_disp B n N)) 0 0 0 ((tGo_2 _ _).trans hc) hC) dX4_dispatch_12 hl (Nat.le_of_ble_eq_true rfl) (y_recv hE rfl hW.1) rfl rfl (Nat.le_of_ble_eq_true rfl) hW (fun _ h => h) ⟨(Nat.le_of_ble_eq_true rfl), (Nat.le_of_ble_eq_true rfl)⟩ (fun vr H hW _ _ => ?_)
  obtain ⟨hr, hW⟩ := hW
  subst hr
  have hW : tW z D m (e_g (tGo g (o_disp B n N)) (tThr (tBy (o_disp B n N)) 0 0 0) c) (e_B (tBo B (o_disp B n N)) (sRow Bs 10 B) (tThr (tBy (o_disp B n N)) 0 0 0)) (e_Bs (sRow Bs 10 B) (tThr (tBy (o_disp B n N)) 0 0 0) c) L I C H := hW
  refine y_st (st' := [.int (e_r (tGo g (o_disp B n N)) (tThr (tBy (o_disp B n N)) 0 0 0))]) rfl ?_
  rw [hQ]
  exact y_iret hE dX4_dispatch_15 ⟨rfl, hW.cast rfl rfl rfl rfl rfl rfl⟩ (Nat.le_of_ble_eq_true rfl) (Nat.le_of_ble_eq_true rfl)

set_option maxHeartbeats 1000000 in
theorem kX4_releaseAll {z : State} {D : yD} {m : Nat → Nat} {g B : Nat → Int32} {Bs : Nat → Nat → Int32} {L I C : Nat → Int32} (n : Nat) (c : Nat) (hn : B 0 = nI n) (hN : n ≤ 12) (hc : g 2 = nI c) (hC : c ≤ 8) : yM yX4_releaseAll (ws_ yX4_releaseAll cX4_releaseAll 1 (some .int)) (rmD 10 0 0) z D [.ref (m 0)] (tW z D m g B Bs L I C) eI (fun vr H => vr = e_r (tGo g (o_rels B n)) (tThr (tBy (o_rels B n)) 0 0 0) ∧ tW z D m (e_g (tGo g (o_rels B n)) (tThr (tBy (o_rels B n)) 0 0 0) c) (e_B (tBo B (o_rels B n)) (sRow Bs 10 B) (tThr (tBy (o_rels B n)) 0 0 0)) (e_Bs (sRow Bs 10 B) (tThr (tBy (o_rels B n)) 0 0 0) c) L I C H) 0 0 (tA m) := by
  refine yM_of (own := RX4) (by decide +kernel) rfl (Nat.le_of_ble_eq_true rfl) (fun H h => h.az) fun E hE hW ls hl hin => ?_
  obtain ⟨Q, hQ⟩ : ∃ Q, Q = yEm E eI (fun vr H => vr = e_r (tGo g (o_rels B n)) (tThr (tBy (o_rels B n)) 0 0 0) ∧ tW z D m (e_g (tGo g (o_rels B n)) (tThr (tBy (o_rels B n)) 0 0 0) c) (e_B (tBo B (o_rels B n)) (sRow Bs 10 B) (tThr (tBy (o_rels B n)) 0 0 0)) (e_Bs (sRow Bs 10 B) (tThr (tBy (o_rels B n)) 0 0 0) c) L I C H) 0 0 (tA m) := ⟨_, rfl⟩
  rw [← hQ]
  generalize (e_s E).heap = H at hW ⊢
  have hl : lv_has ls 1 [(0, .ref (m 0))] := hl
  refine y_aload_n hE dX4_releaseAll_0 rfl (lv_at hl 0 rfl) ?_
  -- call begins []
  refine y_muV (rest := []) hE cl_X4_92 kX4_begins dX4_releaseAll_1 hl (Nat.le_of_ble_eq_true rfl) (y_recv hE rfl hW.1) rfl rfl (Nat.le_of_ble_eq_true rfl) hW (fun _ h => h) ⟨(Nat.le_of_ble_eq_true rfl), (Nat.le_of_ble_eq_true rfl)⟩ (fun vr H hW _ _ => ?_)
  have hW : tW z D m g B (sRow Bs 10 B) L I C H := hW
  refine y_st (st' := []) rfl ?_
  refine y_aload_n hE dX4_releaseAll_4 rfl (lv_at hl 0 rfl) ?_
  refine y_aload_n hE dX4_releaseAll_5 rfl (lv_at hl 0 rfl) ?_
  -- call releasesAll []
  refine y_muV (rest := [.ref (m 0)]) hE cl_X4_144 (kX4_releasesAll n hn hN) dX4_releaseAll_6 hl (Nat.le_of_ble_eq_true rfl) (y_recv hE rfl hW.1) rfl rfl (Nat.le_of_ble_eq_true rfl) hW (fun _ h => h) ⟨(Nat.le_of_ble_eq_true rfl), (Nat.le_of_ble_eq_true rfl)⟩ (fun vr H hW _ _ => ?_)
  obtain ⟨hr, hW⟩ := hW
  subst hr
  have hW : tW z D m (tGo g (o_rels B n)) (tBo B (o_rels B n)) (sRow Bs 10 B) L I C H := hW
  refine y_st (st' := [.int (tBy (o_rels B n)), .ref (m 0)]) rfl ?_
  refine y_iconst (v := 0) hE dX4_releaseAll_9 (by decide) ?_
  refine y_iconst (v := 0) hE dX4_releaseAll_10 (by decide) ?_
  refine y_iconst (v := 0) hE dX4_releaseAll_11 (by decide) ?_
  -- call ends ['tBy (o_rels B n)', '0', '0', '0']
  refine y_muV (rest := []) hE cl_X4_99 (kX4_ends c (tBy (o_rels B n)) 0 0 0 ((tGo_2 _ _).trans hc) hC) dX4_releaseAll_12 hl (Nat.le_of_ble_eq_true rfl) (y_recv hE rfl hW.1) rfl rfl (Nat.le_of_ble_eq_true rfl) hW (fun _ h => h) ⟨(Nat.le_of_ble_eq_true rfl), (Nat.le_of_ble_eq_true rfl)⟩ (fun vr H hW _ _ => ?_)
  obtain ⟨hr, hW⟩ := hW
  subst hr
  have hW : tW z D m (e_g (tGo g (o_rels B n)) (tThr (tBy (o_rels B n)) 0 0 0) c) (e_B (tBo B (o_rels B n)) (sRow Bs 10 B) (tThr (tBy (o_rels B n)) 0 0 0)) (e_Bs (sRow Bs 10 B) (tThr (tBy (o_rels B n)) 0 0 0) c) L I C H := hW
  refine y_st (st' := [.int (e_r (tGo g (o_rels B n)) (tThr (tBy (o_rels B n)) 0 0 0))]) rfl ?_
  rw [hQ]
  exact y_iret hE dX4_releaseAll_15 ⟨rfl, hW.cast rfl rfl rfl rfl rfl rfl⟩ (Nat.le_of_ble_eq_true rfl) (Nat.le_of_ble_eq_true rfl)

set_option maxHeartbeats 1000000 in
theorem kX4_placeBid {z : State} {D : yD} {m : Nat → Nat} {g B : Nat → Int32} {Bs : Nat → Nat → Int32} {L I C : Nat → Int32} (c : Nat) (x : Int32) (p : Int32) (q : Int32) (hc : g 2 = nI c) (hC : c ≤ 8) : yM yX4_placeBid (ws_ yX4_placeBid cX4_placeBid 4 (some .int)) (rmD 10 0 0) z D [.ref (m 0), .int x, .int p, .int q] (tW z D m g B Bs L I C) eI (fun vr H => vr = e_r (tGo g (o_places B x p q)) (tThr (tBy (o_places B x p q)) 1 2 3) ∧ tW z D m (e_g (tGo g (o_places B x p q)) (tThr (tBy (o_places B x p q)) 1 2 3) c) (e_B (tBo B (o_places B x p q)) (sRow Bs 10 B) (tThr (tBy (o_places B x p q)) 1 2 3)) (e_Bs (sRow Bs 10 B) (tThr (tBy (o_places B x p q)) 1 2 3) c) L I C H) 0 0 (tA m) := by
  refine yM_of (own := RX4) (by decide +kernel) rfl (Nat.le_of_ble_eq_true rfl) (fun H h => h.az) fun E hE hW ls hl hin => ?_
  obtain ⟨Q, hQ⟩ : ∃ Q, Q = yEm E eI (fun vr H => vr = e_r (tGo g (o_places B x p q)) (tThr (tBy (o_places B x p q)) 1 2 3) ∧ tW z D m (e_g (tGo g (o_places B x p q)) (tThr (tBy (o_places B x p q)) 1 2 3) c) (e_B (tBo B (o_places B x p q)) (sRow Bs 10 B) (tThr (tBy (o_places B x p q)) 1 2 3)) (e_Bs (sRow Bs 10 B) (tThr (tBy (o_places B x p q)) 1 2 3) c) L I C H) 0 0 (tA m) := ⟨_, rfl⟩
  rw [← hQ]
  generalize (e_s E).heap = H at hW ⊢
  have hl : lv_has ls 4 [(0, .ref (m 0)), (1, .int x), (2, .int p), (3, .int q)] := hl
  refine y_aload_n hE dX4_placeBid_0 rfl (lv_at hl 0 rfl) ?_
  -- call begins []
  refine y_muV (rest := []) hE cl_X4_92 kX4_begins dX4_placeBid_1 hl (Nat.le_of_ble_eq_true rfl) (y_recv hE rfl hW.1) rfl rfl (Nat.le_of_ble_eq_true rfl) hW (fun _ h => h) ⟨(Nat.le_of_ble_eq_true rfl), (Nat.le_of_ble_eq_true rfl)⟩ (fun vr H hW _ _ => ?_)
  have hW : tW z D m g B (sRow Bs 10 B) L I C H := hW
  refine y_st (st' := []) rfl ?_
  refine y_aload_n hE dX4_placeBid_4 rfl (lv_at hl 0 rfl) ?_
  refine y_aload_n hE dX4_placeBid_5 rfl (lv_at hl 0 rfl) ?_
  refine y_iload_n hE dX4_placeBid_6 rfl (lv_at hl 1 rfl) ?_
  refine y_iload_n hE dX4_placeBid_7 rfl (lv_at hl 2 rfl) ?_
  refine y_iload_n hE dX4_placeBid_8 rfl (lv_at hl 3 rfl) ?_
  -- call places ['x', 'p', 'q']
  refine y_muV (rest := [.ref (m 0)]) hE cl_X4_156 (kX4_places x p q) dX4_placeBid_9 hl (Nat.le_of_ble_eq_true rfl) (y_recv hE rfl hW.1) rfl rfl (Nat.le_of_ble_eq_true rfl) hW (fun _ h => h) ⟨(Nat.le_of_ble_eq_true rfl), (Nat.le_of_ble_eq_true rfl)⟩ (fun vr H hW _ _ => ?_)
  obtain ⟨hr, hW⟩ := hW
  subst hr
  have hW : tW z D m (tGo g (o_places B x p q)) (tBo B (o_places B x p q)) (sRow Bs 10 B) L I C H := hW
  refine y_st (st' := [.int (tBy (o_places B x p q)), .ref (m 0)]) rfl ?_
  refine y_iconst (v := 1) hE dX4_placeBid_12 (by decide) ?_
  refine y_iconst (v := 2) hE dX4_placeBid_13 (by decide) ?_
  refine y_iconst (v := 3) hE dX4_placeBid_14 (by decide) ?_
  -- call ends ['tBy (o_places B x p q)', '1', '2', '3']
  refine y_muV (rest := []) hE cl_X4_99 (kX4_ends c (tBy (o_places B x p q)) 1 2 3 ((tGo_2 _ _).trans hc) hC) dX4_placeBid_15 hl (Nat.le_of_ble_eq_true rfl) (y_recv hE rfl hW.1) rfl rfl (Nat.le_of_ble_eq_true rfl) hW (fun _ h => h) ⟨(Nat.le_of_ble_eq_true rfl), (Nat.le_of_ble_eq_true rfl)⟩ (fun vr H hW _ _ => ?_)
  obtain ⟨hr, hW⟩ := hW
  subst hr
  have hW : tW z D m (e_g (tGo g (o_places B x p q)) (tThr (tBy (o_places B x p q)) 1 2 3) c) (e_B (tBo B (o_places B x p q)) (sRow Bs 10 B) (tThr (tBy (o_places B x p q)) 1 2 3)) (e_Bs (sRow Bs 10 B) (tThr (tBy (o_places B x p q)) 1 2 3) c) L I C H := hW
  refine y_st (st' := [.int (e_r (tGo g (o_places B x p q)) (tThr (tBy (o_places B x p q)) 1 2 3))]) rfl ?_
  rw [hQ]
  exact y_iret hE dX4_placeBid_18 ⟨rfl, hW.cast rfl rfl rfl rfl rfl rfl⟩ (Nat.le_of_ble_eq_true rfl) (Nat.le_of_ble_eq_true rfl)

set_option maxHeartbeats 1000000 in
theorem kX4_withdrawBid {z : State} {D : yD} {m : Nat → Nat} {g B : Nat → Int32} {Bs : Nat → Nat → Int32} {L I C : Nat → Int32} (c : Nat) (x : Int32) (hc : g 2 = nI c) (hC : c ≤ 8) : yM yX4_withdrawBid (ws_ yX4_withdrawBid cX4_withdrawBid 2 (some .int)) (rmD 10 0 0) z D [.ref (m 0), .int x] (tW z D m g B Bs L I C) eI (fun vr H => vr = e_r (tGo g (o_withdraws B x)) (tThr (tBy (o_withdraws B x)) 1 0 2) ∧ tW z D m (e_g (tGo g (o_withdraws B x)) (tThr (tBy (o_withdraws B x)) 1 0 2) c) (e_B (tBo B (o_withdraws B x)) (sRow Bs 10 B) (tThr (tBy (o_withdraws B x)) 1 0 2)) (e_Bs (sRow Bs 10 B) (tThr (tBy (o_withdraws B x)) 1 0 2) c) L I C H) 0 0 (tA m) := by
  refine yM_of (own := RX4) (by decide +kernel) rfl (Nat.le_of_ble_eq_true rfl) (fun H h => h.az) fun E hE hW ls hl hin => ?_
  obtain ⟨Q, hQ⟩ : ∃ Q, Q = yEm E eI (fun vr H => vr = e_r (tGo g (o_withdraws B x)) (tThr (tBy (o_withdraws B x)) 1 0 2) ∧ tW z D m (e_g (tGo g (o_withdraws B x)) (tThr (tBy (o_withdraws B x)) 1 0 2) c) (e_B (tBo B (o_withdraws B x)) (sRow Bs 10 B) (tThr (tBy (o_withdraws B x)) 1 0 2)) (e_Bs (sRow Bs 10 B) (tThr (tBy (o_withdraws B x)) 1 0 2) c) L I C H) 0 0 (tA m) := ⟨_, rfl⟩
  rw [← hQ]
  generalize (e_s E).heap = H at hW ⊢
  have hl : lv_has ls 2 [(0, .ref (m 0)), (1, .int x)] := hl
  refine y_aload_n hE dX4_withdrawBid_0 rfl (lv_at hl 0 rfl) ?_
  -- call begins []
  refine y_muV (rest := []) hE cl_X4_92 kX4_begins dX4_withdrawBid_1 hl (Nat.le_of_ble_eq_true rfl) (y_recv hE rfl hW.1) rfl rfl (Nat.le_of_ble_eq_true rfl) hW (fun _ h => h) ⟨(Nat.le_of_ble_eq_true rfl), (Nat.le_of_ble_eq_true rfl)⟩ (fun vr H hW _ _ => ?_)
  have hW : tW z D m g B (sRow Bs 10 B) L I C H := hW
  refine y_st (st' := []) rfl ?_
  refine y_aload_n hE dX4_withdrawBid_4 rfl (lv_at hl 0 rfl) ?_
  refine y_aload_n hE dX4_withdrawBid_5 rfl (lv_at hl 0 rfl) ?_
  refine y_iload_n hE dX4_withdrawBid_6 rfl (lv_at hl 1 rfl) ?_
  -- call withdraws ['x']
  refine y_muV (rest := [.ref (m 0)]) hE cl_X4_162 (kX4_withdraws x) dX4_withdrawBid_7 hl (Nat.le_of_ble_eq_true rfl) (y_recv hE rfl hW.1) rfl rfl (Nat.le_of_ble_eq_true rfl) hW (fun _ h => h) ⟨(Nat.le_of_ble_eq_true rfl), (Nat.le_of_ble_eq_true rfl)⟩ (fun vr H hW _ _ => ?_)
  obtain ⟨hr, hW⟩ := hW
  subst hr
  have hW : tW z D m (tGo g (o_withdraws B x)) (tBo B (o_withdraws B x)) (sRow Bs 10 B) L I C H := hW
  refine y_st (st' := [.int (tBy (o_withdraws B x)), .ref (m 0)]) rfl ?_
  refine y_iconst (v := 1) hE dX4_withdrawBid_10 (by decide) ?_
  refine y_iconst (v := 0) hE dX4_withdrawBid_11 (by decide) ?_
  refine y_iconst (v := 2) hE dX4_withdrawBid_12 (by decide) ?_
  -- call ends ['tBy (o_withdraws B x)', '1', '0', '2']
  refine y_muV (rest := []) hE cl_X4_99 (kX4_ends c (tBy (o_withdraws B x)) 1 0 2 ((tGo_2 _ _).trans hc) hC) dX4_withdrawBid_13 hl (Nat.le_of_ble_eq_true rfl) (y_recv hE rfl hW.1) rfl rfl (Nat.le_of_ble_eq_true rfl) hW (fun _ h => h) ⟨(Nat.le_of_ble_eq_true rfl), (Nat.le_of_ble_eq_true rfl)⟩ (fun vr H hW _ _ => ?_)
  obtain ⟨hr, hW⟩ := hW
  subst hr
  have hW : tW z D m (e_g (tGo g (o_withdraws B x)) (tThr (tBy (o_withdraws B x)) 1 0 2) c) (e_B (tBo B (o_withdraws B x)) (sRow Bs 10 B) (tThr (tBy (o_withdraws B x)) 1 0 2)) (e_Bs (sRow Bs 10 B) (tThr (tBy (o_withdraws B x)) 1 0 2) c) L I C H := hW
  refine y_st (st' := [.int (e_r (tGo g (o_withdraws B x)) (tThr (tBy (o_withdraws B x)) 1 0 2))]) rfl ?_
  rw [hQ]
  exact y_iret hE dX4_withdrawBid_16 ⟨rfl, hW.cast rfl rfl rfl rfl rfl rfl⟩ (Nat.le_of_ble_eq_true rfl) (Nat.le_of_ble_eq_true rfl)

set_option maxHeartbeats 1000000 in
theorem kX4_passHours {z : State} {D : yD} {m : Nat → Nat} {g B : Nat → Int32} {Bs : Nat → Nat → Int32} {L I C : Nat → Int32} (n : Nat) (t : Nat) (c : Nat) (x : Int32) (hn : B 0 = nI n) (hN : n ≤ 12) (hT : B 4 = nI t) (ht : t + 50 < 2 ^ 20) (hc : g 2 = nI c) (hC : c ≤ 8) : yM yX4_passHours (ws_ yX4_passHours cX4_passHours 2 (some .int)) (rmD 10 0 0) z D [.ref (m 0), .int x] (tW z D m g B Bs L I C) eI (fun vr H => vr = e_r (tGo g (o_hours B n t x)) (tThr (tBy (o_hours B n t x)) 0 1 0) ∧ tW z D m (e_g (tGo g (o_hours B n t x)) (tThr (tBy (o_hours B n t x)) 0 1 0) c) (e_B (tBo B (o_hours B n t x)) (sRow Bs 10 B) (tThr (tBy (o_hours B n t x)) 0 1 0)) (e_Bs (sRow Bs 10 B) (tThr (tBy (o_hours B n t x)) 0 1 0) c) L I C H) 0 0 (tA m) := by
  refine yM_of (own := RX4) (by decide +kernel) rfl (Nat.le_of_ble_eq_true rfl) (fun H h => h.az) fun E hE hW ls hl hin => ?_
  obtain ⟨Q, hQ⟩ : ∃ Q, Q = yEm E eI (fun vr H => vr = e_r (tGo g (o_hours B n t x)) (tThr (tBy (o_hours B n t x)) 0 1 0) ∧ tW z D m (e_g (tGo g (o_hours B n t x)) (tThr (tBy (o_hours B n t x)) 0 1 0) c) (e_B (tBo B (o_hours B n t x)) (sRow Bs 10 B) (tThr (tBy (o_hours B n t x)) 0 1 0)) (e_Bs (sRow Bs 10 B) (tThr (tBy (o_hours B n t x)) 0 1 0) c) L I C H) 0 0 (tA m) := ⟨_, rfl⟩
  rw [← hQ]
  generalize (e_s E).heap = H at hW ⊢
  have hl : lv_has ls 2 [(0, .ref (m 0)), (1, .int x)] := hl
  refine y_aload_n hE dX4_passHours_0 rfl (lv_at hl 0 rfl) ?_
  -- call begins []
  refine y_muV (rest := []) hE cl_X4_92 kX4_begins dX4_passHours_1 hl (Nat.le_of_ble_eq_true rfl) (y_recv hE rfl hW.1) rfl rfl (Nat.le_of_ble_eq_true rfl) hW (fun _ h => h) ⟨(Nat.le_of_ble_eq_true rfl), (Nat.le_of_ble_eq_true rfl)⟩ (fun vr H hW _ _ => ?_)
  have hW : tW z D m g B (sRow Bs 10 B) L I C H := hW
  refine y_st (st' := []) rfl ?_
  refine y_aload_n hE dX4_passHours_4 rfl (lv_at hl 0 rfl) ?_
  refine y_aload_n hE dX4_passHours_5 rfl (lv_at hl 0 rfl) ?_
  refine y_iload_n hE dX4_passHours_6 rfl (lv_at hl 1 rfl) ?_
  -- call passesHours ['x']
  refine y_muV (rest := [.ref (m 0)]) hE cl_X4_168 (kX4_passesHours n t x hn hN hT (by omega)) dX4_passHours_7 hl (Nat.le_of_ble_eq_true rfl) (y_recv hE rfl hW.1) rfl rfl (Nat.le_of_ble_eq_true rfl) hW (fun _ h => h) ⟨(Nat.le_of_ble_eq_true rfl), (Nat.le_of_ble_eq_true rfl)⟩ (fun vr H hW _ _ => ?_)
  obtain ⟨hr, hW⟩ := hW
  subst hr
  have hW : tW z D m (tGo g (o_hours B n t x)) (tBo B (o_hours B n t x)) (sRow Bs 10 B) L I C H := hW
  refine y_st (st' := [.int (tBy (o_hours B n t x)), .ref (m 0)]) rfl ?_
  refine y_iconst (v := 0) hE dX4_passHours_10 (by decide) ?_
  refine y_iconst (v := 1) hE dX4_passHours_11 (by decide) ?_
  refine y_iconst (v := 0) hE dX4_passHours_12 (by decide) ?_
  -- call ends ['tBy (o_hours B n t x)', '0', '1', '0']
  refine y_muV (rest := []) hE cl_X4_99 (kX4_ends c (tBy (o_hours B n t x)) 0 1 0 ((tGo_2 _ _).trans hc) hC) dX4_passHours_13 hl (Nat.le_of_ble_eq_true rfl) (y_recv hE rfl hW.1) rfl rfl (Nat.le_of_ble_eq_true rfl) hW (fun _ h => h) ⟨(Nat.le_of_ble_eq_true rfl), (Nat.le_of_ble_eq_true rfl)⟩ (fun vr H hW _ _ => ?_)
  obtain ⟨hr, hW⟩ := hW
  subst hr
  have hW : tW z D m (e_g (tGo g (o_hours B n t x)) (tThr (tBy (o_hours B n t x)) 0 1 0) c) (e_B (tBo B (o_hours B n t x)) (sRow Bs 10 B) (tThr (tBy (o_hours B n t x)) 0 1 0)) (e_Bs (sRow Bs 10 B) (tThr (tBy (o_hours B n t x)) 0 1 0) c) L I C H := hW
  refine y_st (st' := [.int (e_r (tGo g (o_hours B n t x)) (tThr (tBy (o_hours B n t x)) 0 1 0))]) rfl ?_
  rw [hQ]
  exact y_iret hE dX4_passHours_16 ⟨rfl, hW.cast rfl rfl rfl rfl rfl rfl⟩ (Nat.le_of_ble_eq_true rfl) (Nat.le_of_ble_eq_true rfl)


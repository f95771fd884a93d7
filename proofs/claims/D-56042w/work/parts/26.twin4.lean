set_option maxRecDepth 100000
set_option maxHeartbeats 1000000 in
theorem kX4_bidByPrice {z : State} {D : yD} {m : Nat → Nat} {g B : Nat → Int32} {Bs : Nat → Nat → Int32} {L I C : Nat → Int32} (x : Int32) : yM yX4_bidByPrice (ws_ yX4_bidByPrice cX4_bidByPrice 7 (some .int)) (rmD 2 0 0) z D [.ref (m 0), .int x] (tW z D m g B Bs L I C) eI (fun vr H => vr = m_o0 (y_fst (bb_is B x) 0 24) ∧ tW z D m (fs_g g (y_fst (bb_is B x) 0 24)) B Bs L I C H) 0 0 (tA m) := by
  refine yM_of (own := RX4) (by decide +kernel) rfl (Nat.le_of_ble_eq_true rfl) (fun H h => h.az) fun E hE hW ls hl hin => ?_
  obtain ⟨Q, hQ⟩ : ∃ Q, Q = yEm E eI (fun vr H => vr = m_o0 (y_fst (bb_is B x) 0 24) ∧ tW z D m (fs_g g (y_fst (bb_is B x) 0 24)) B Bs L I C H) 0 0 (tA m) := ⟨_, rfl⟩
  rw [← hQ]
  generalize (e_s E).heap = H at hW ⊢
  have hl : lv_has ls 7 [(0, .ref (m 0)), (1, .int x)] := hl
  refine y_iconst (v := 0) hE dX4_bidByPrice_0 (by decide) ?_
  refine y_istore_n (lv' := [(2, .int 0), (0, .ref (m 0)), (1, .int x)]) hE dX4_bidByPrice_1 rfl hl (by decide) rfl (fun ls hl => ?_)
  have K2 : ∀ k : Nat, k ≤ 24 → ∀ (H : Heap) (ls : Array Slot), lv_has ls 7 [(2, .int (nI k)), (0, .ref (m 0)), (1, .int x)] → tW z D m (th_g (fun k => decide (m_price B k ≠ 0)) g k) B Bs L I C H → (y_fst (bb_is B x) 0 24 = y_fst (bb_is B x) k (24 - k)) → yY E (tA m) H 0 0 Q 2 ls [] := by
    refine y_loop ?_ ?_
    · -- the end of the loop at 2
      intro H ls hl hW hv
      refine y_iload_n hE dX4_bidByPrice_2 rfl (lv_at hl 0 rfl) ?_
      refine y_bipush (v := 24) hE dX4_bidByPrice_3 (by decide) ?_
      refine y_set1 (w := nI 24) (rfl) ?_
      refine y_icmp_ge (tgt := 133) hE dX4_bidByPrice_5 (by decide) (fun c5 => ?_) (fun c5 => ?_)
      · -- t 5
        have n5 := Int32.not_lt.mpr c5
        refine y_aload_n hE dX4_bidByPrice_133 rfl (lv_at hl 1 rfl) ?_
        refine y_iconst (v := 1) hE dX4_bidByPrice_134 (by decide) ?_
        refine t_put (g' := upd (th_g (fun k => decide (m_price B k ≠ 0)) g 24) 0 1) hE hW 0 (by decide) q1976 rfl rfl rfl rfl rfl dX4_bidByPrice_135 (fun H hW => ?_)
        refine y_iconst (v := 0) hE dX4_bidByPrice_138 (by decide) ?_
        rw [hQ]
        exact y_iret hE dX4_bidByPrice_139 ⟨(by rw [hv, y_fst_0]; rfl), (hW.cast (by rw [hv, y_fst_0]; exact th_g_u _ _ _ _) rfl rfl rfl rfl rfl)⟩ (Nat.le_of_ble_eq_true rfl) (Nat.le_of_ble_eq_true rfl)
      · -- f 5
        exact absurd (nI_le (Nat.le_refl _) (by omega)) c5
    · -- a round of the loop at 2
      intro k hk ih2 H ls hl hW hv
      refine y_iload_n hE dX4_bidByPrice_2 rfl (lv_at hl 0 rfl) ?_
      refine y_bipush (v := 24) hE dX4_bidByPrice_3 (by decide) ?_
      refine y_set1 (w := nI 24) (rfl) ?_
      refine y_icmp_ge (tgt := 133) hE dX4_bidByPrice_5 (by decide) (fun c5 => ?_) (fun c5 => ?_)
      · -- t 5
        exact absurd c5 (nI_ge hk (by omega))
      · -- f 5
        have n5 := Int32.not_le.mp c5
        refine y_iconst (v := 0) hE dX4_bidByPrice_8 (by decide) ?_
        refine y_istore_n (lv' := [(3, .int 0), (2, .int (nI k)), (0, .ref (m 0)), (1, .int x)]) hE dX4_bidByPrice_9 rfl hl (by decide) rfl (fun ls hl => ?_)
        refine y_aload_n hE dX4_bidByPrice_10 rfl (lv_at hl 2 rfl) ?_
        refine y_iload_n hE dX4_bidByPrice_11 rfl (lv_at hl 1 rfl) ?_
        -- call price ['k']
        refine y_roV (rest := []) hE cl_X4_147 (kX4_price k (by omega)) dX4_bidByPrice_12 hl (Nat.le_of_ble_eq_true rfl) (y_recv hE rfl hW.1) rfl rfl (Nat.le_of_ble_eq_true rfl) hW ⟨(Nat.le_of_ble_eq_true rfl), (Nat.le_of_ble_eq_true rfl)⟩ ?_
        refine y_if_ne (tgt := 21) hE dX4_bidByPrice_15 (by decide) (fun c15 => ?_) (fun c15 => ?_)
        · -- t 15
          refine y_iconst (v := 0) hE dX4_bidByPrice_21 (by decide) ?_
          refine y_istore (lv' := [(4, .int 0), (3, .int 0), (2, .int (nI k)), (0, .ref (m 0)), (1, .int x)]) hE dX4_bidByPrice_22 hl (by decide) rfl (fun ls hl => ?_)
          have K24 : ∀ j : Nat, j ≤ 24 → ∀ (H : Heap) (ls : Array Slot), lv_has ls 7 [(4, .int (nI j)), (3, .int (y_sum (fun j => if bb_ah B k j then 1 else 0) j)), (2, .int (nI k)), (0, .ref (m 0)), (1, .int x)] → tW z D m (th_g (fun k => decide (m_price B k ≠ 0)) g k) B Bs L I C H → yY E (tA m) H 0 0 Q 24 ls [] := by
            refine y_loop ?_ ?_
            · -- the end of the loop at 24
              intro H ls hl hW 
              refine y_iload hE dX4_bidByPrice_24 (lv_at hl 0 rfl) ?_
              refine y_bipush (v := 24) hE dX4_bidByPrice_26 (by decide) ?_
              refine y_set1 (w := nI 24) (rfl) ?_
              refine y_icmp_ge (tgt := 108) hE dX4_bidByPrice_28 (by decide) (fun c28 => ?_) (fun c28 => ?_)
              · -- t 28
                have n28 := Int32.not_lt.mpr c28
                refine y_aload_n hE dX4_bidByPrice_108 rfl (lv_at hl 3 rfl) ?_
                refine y_iload_n hE dX4_bidByPrice_109 rfl (lv_at hl 1 rfl) ?_
                refine y_iload_n hE dX4_bidByPrice_110 rfl (lv_at hl 4 rfl) ?_
                refine y_icmp_ne (tgt := 118) hE dX4_bidByPrice_111 (by decide) (fun c111 => ?_) (fun c111 => ?_)
                · -- t 111
                  refine y_iconst (v := 0) hE dX4_bidByPrice_118 (by decide) ?_
                  -- call isFine ['false']
                  refine y_muV (rest := []) hE cl_X4_49 (kX4_isFine false) dX4_bidByPrice_119 hl (Nat.le_of_ble_eq_true rfl) (y_recv hE rfl hW.1) rfl rfl (Nat.le_of_ble_eq_true rfl) hW (fun _ h => h) ⟨(Nat.le_of_ble_eq_true rfl), (Nat.le_of_ble_eq_true rfl)⟩ (fun vr H hW _ _ => ?_)
                  obtain ⟨hr, hW⟩ := hW
                  subst hr
                  have hW : tW z D m (upd (th_g (fun k => decide (m_price B k ≠ 0)) g k) 0 1) B Bs L I C H := hW
                  refine y_st (st' := [.int (zb false)]) rfl ?_
                  refine y_if_eq (tgt := 127) hE dX4_bidByPrice_122 (by decide) (fun c122 => ?_) (fun c122 => ?_)
                  · -- t 122
                    rw [zb_0] at c122
                    refine y_iinc (v := nI (k + 1)) (lv' := [(2, .int (nI (k + 1))), (4, .int (nI 24)), (3, .int (y_sum (fun j => if bb_ah B k j then 1 else 0) 24)), (0, .ref (m 0)), (1, .int x)]) hE dX4_bidByPrice_127 hl (k := 2) rfl (nI_1 k) (by decide) rfl (fun ls hl => ?_)
                    refine y_goto (tgt := 2) hE dX4_bidByPrice_130 (by decide) ?_
                    exact ih2 _ _ (lv_sub hl [0, 3, 4] rfl) (hW.cast (by simp [th_g, c15]) rfl rfl rfl rfl rfl) (hv.trans (y_fst_n hk (by simp [bb_is, bb_n, c15, c111])))
                  · -- f 122
                    rw [zb_1] at c122
                    exact absurd c122 (by decide)
                · -- f 111
                  refine y_iconst (v := 1) hE dX4_bidByPrice_114 (by decide) ?_
                  refine y_goto (tgt := 119) hE dX4_bidByPrice_115 (by decide) ?_
                  -- call isFine ['true']
                  refine y_muV (rest := []) hE cl_X4_49 (kX4_isFine true) dX4_bidByPrice_119 hl (Nat.le_of_ble_eq_true rfl) (y_recv hE rfl hW.1) rfl rfl (Nat.le_of_ble_eq_true rfl) hW (fun _ h => h) ⟨(Nat.le_of_ble_eq_true rfl), (Nat.le_of_ble_eq_true rfl)⟩ (fun vr H hW _ _ => ?_)
                  obtain ⟨hr, hW⟩ := hW
                  subst hr
                  have hW : tW z D m (upd (th_g (fun k => decide (m_price B k ≠ 0)) g k) 0 0) B Bs L I C H := hW
                  refine y_st (st' := [.int (zb true)]) rfl ?_
                  refine y_if_eq (tgt := 127) hE dX4_bidByPrice_122 (by decide) (fun c122 => ?_) (fun c122 => ?_)
                  · -- t 122
                    rw [zb_0] at c122
                    exact absurd c122 (by decide)
                  · -- f 122
                    rw [zb_1] at c122
                    refine y_iload_n hE dX4_bidByPrice_125 rfl (lv_at hl 2 rfl) ?_
                    rw [hQ]
                    exact y_iret hE dX4_bidByPrice_126 ⟨(by rw [hv, y_fst_y hk (by simp [bb_is, bb_n, c15, c111])]; rfl), (hW.cast (by rw [hv, y_fst_y hk (by simp [bb_is, bb_n, c15, c111])]; exact th_g_u _ _ _ _) rfl rfl rfl rfl rfl)⟩ (Nat.le_of_ble_eq_true rfl) (Nat.le_of_ble_eq_true rfl)
              · -- f 28
                exact absurd (nI_le (Nat.le_refl _) (by omega)) c28
            · -- a round of the loop at 24
              intro j hj ih24 H ls hl hW 
              refine y_iload hE dX4_bidByPrice_24 (lv_at hl 0 rfl) ?_
              refine y_bipush (v := 24) hE dX4_bidByPrice_26 (by decide) ?_
              refine y_set1 (w := nI 24) (rfl) ?_
              refine y_icmp_ge (tgt := 108) hE dX4_bidByPrice_28 (by decide) (fun c28 => ?_) (fun c28 => ?_)
              · -- t 28
                exact absurd c28 (nI_ge hj (by omega))
              · -- f 28
                have n28 := Int32.not_le.mp c28
                refine y_aload_n hE dX4_bidByPrice_31 rfl (lv_at hl 3 rfl) ?_
                refine y_iload hE dX4_bidByPrice_32 (lv_at hl 0 rfl) ?_
                -- call price ['j']
                refine y_roV (rest := []) hE cl_X4_147 (kX4_price j (by omega)) dX4_bidByPrice_34 hl (Nat.le_of_ble_eq_true rfl) (y_recv hE rfl hW.1) rfl rfl (Nat.le_of_ble_eq_true rfl) hW ⟨(Nat.le_of_ble_eq_true rfl), (Nat.le_of_ble_eq_true rfl)⟩ ?_
                refine y_aload_n hE dX4_bidByPrice_37 rfl (lv_at hl 3 rfl) ?_
                refine y_iload_n hE dX4_bidByPrice_38 rfl (lv_at hl 2 rfl) ?_
                -- call price ['k']
                refine y_roV (rest := [.int (m_price B j)]) hE cl_X4_147 (kX4_price k (by omega)) dX4_bidByPrice_39 hl (Nat.le_of_ble_eq_true rfl) (y_recv hE rfl hW.1) rfl rfl (Nat.le_of_ble_eq_true rfl) hW ⟨(Nat.le_of_ble_eq_true rfl), (Nat.le_of_ble_eq_true rfl)⟩ ?_
                refine y_isub hE dX4_bidByPrice_42 ?_
                refine y_istore (lv' := [(5, .int ((m_price B j) - (m_price B k))), (4, .int (nI j)), (3, .int (y_sum (fun j => if bb_ah B k j then 1 else 0) j)), (2, .int (nI k)), (0, .ref (m 0)), (1, .int x)]) hE dX4_bidByPrice_43 hl (by decide) rfl (fun ls hl => ?_)
                refine y_aload_n hE dX4_bidByPrice_45 rfl (lv_at hl 4 rfl) ?_
                refine y_iload hE dX4_bidByPrice_46 (lv_at hl 1 rfl) ?_
                -- call quantity ['j']
                refine y_roV (rest := []) hE cl_X4_159 (kX4_quantity j (by omega)) dX4_bidByPrice_48 hl (Nat.le_of_ble_eq_true rfl) (y_recv hE rfl hW.1) rfl rfl (Nat.le_of_ble_eq_true rfl) hW ⟨(Nat.le_of_ble_eq_true rfl), (Nat.le_of_ble_eq_true rfl)⟩ ?_
                refine y_aload_n hE dX4_bidByPrice_51 rfl (lv_at hl 4 rfl) ?_
                refine y_iload_n hE dX4_bidByPrice_52 rfl (lv_at hl 3 rfl) ?_
                -- call quantity ['k']
                refine y_roV (rest := [.int (m_quan B j)]) hE cl_X4_159 (kX4_quantity k (by omega)) dX4_bidByPrice_53 hl (Nat.le_of_ble_eq_true rfl) (y_recv hE rfl hW.1) rfl rfl (Nat.le_of_ble_eq_true rfl) hW ⟨(Nat.le_of_ble_eq_true rfl), (Nat.le_of_ble_eq_true rfl)⟩ ?_
                refine y_isub hE dX4_bidByPrice_56 ?_
                refine y_istore (lv' := [(6, .int ((m_quan B j) - (m_quan B k))), (5, .int ((m_price B j) - (m_price B k))), (4, .int (nI j)), (3, .int (y_sum (fun j => if bb_ah B k j then 1 else 0) j)), (2, .int (nI k)), (0, .ref (m 0)), (1, .int x)]) hE dX4_bidByPrice_57 hl (by decide) rfl (fun ls hl => ?_)
                refine y_iload_n hE dX4_bidByPrice_59 rfl (lv_at hl 3 rfl) ?_
                refine y_aload_n hE dX4_bidByPrice_60 rfl (lv_at hl 5 rfl) ?_
                refine y_iload hE dX4_bidByPrice_61 (lv_at hl 2 rfl) ?_
                -- call price ['j']
                refine y_roV (rest := [.int (y_sum (fun j => if bb_ah B k j then 1 else 0) j)]) hE cl_X4_147 (kX4_price j (by omega)) dX4_bidByPrice_63 hl (Nat.le_of_ble_eq_true rfl) (y_recv hE rfl hW.1) rfl rfl (Nat.le_of_ble_eq_true rfl) hW ⟨(Nat.le_of_ble_eq_true rfl), (Nat.le_of_ble_eq_true rfl)⟩ ?_
                have K100 : ∀ ls : Array Slot, lv_has ls 7 [(6, .int ((m_quan B j) - (m_quan B k))), (5, .int ((m_price B j) - (m_price B k))), (4, .int (nI j)), (3, .int (y_sum (fun j => if bb_ah B k j then 1 else 0) j)), (2, .int (nI k)), (0, .ref (m 0)), (1, .int x)] → yY E (tA m) H 0 0 Q 100 ls [.int (if bb_ah B k j then 1 else 0), .int (y_sum (fun j => if bb_ah B k j then 1 else 0) j)] := by
                  intro ls hl
                  refine y_iadd hE dX4_bidByPrice_100 ?_
                  refine y_istore_n (lv' := [(3, .int ((y_sum (fun j => if bb_ah B k j then 1 else 0) j) + (if bb_ah B k j then 1 else 0))), (6, .int ((m_quan B j) - (m_quan B k))), (5, .int ((m_price B j) - (m_price B k))), (4, .int (nI j)), (2, .int (nI k)), (0, .ref (m 0)), (1, .int x)]) hE dX4_bidByPrice_101 rfl hl (by decide) rfl (fun ls hl => ?_)
                  refine y_iinc (v := nI (j + 1)) (lv' := [(4, .int (nI (j + 1))), (3, .int ((y_sum (fun j => if bb_ah B k j then 1 else 0) j) + (if bb_ah B k j then 1 else 0))), (6, .int ((m_quan B j) - (m_quan B k))), (5, .int ((m_price B j) - (m_price B k))), (2, .int (nI k)), (0, .ref (m 0)), (1, .int x)]) hE dX4_bidByPrice_102 hl (k := 3) rfl (nI_1 j) (by decide) rfl (fun ls hl => ?_)
                  refine y_goto (tgt := 24) hE dX4_bidByPrice_105 (by decide) ?_
                  exact ih24 _ _ (lv_sub hl [0, 1, 4, 5, 6] rfl) hW
                refine y_if_le (tgt := 99) hE dX4_bidByPrice_66 (by decide) (fun c66 => ?_) (fun c66 => ?_)
                · -- t 66
                  have n66 := Int32.not_lt.mpr c66
                  refine y_iconst (v := 0) hE dX4_bidByPrice_99 (by decide) ?_
                  exact y_set1 ((by simp [bb_ah, c5, n5, c15, c28, n28, c66, n66])) (K100 _ hl)
                · -- f 66
                  have n66 := Int32.not_le.mp c66
                  refine y_iload hE dX4_bidByPrice_69 (lv_at hl 1 rfl) ?_
                  refine y_if_gt (tgt := 95) hE dX4_bidByPrice_71 (by decide) (fun c71 => ?_) (fun c71 => ?_)
                  · -- t 71
                    have n71 := Int32.not_le.mpr c71
                    refine y_iconst (v := 1) hE dX4_bidByPrice_95 (by decide) ?_
                    refine y_goto (tgt := 100) hE dX4_bidByPrice_96 (by decide) ?_
                    exact y_set1 ((by simp [bb_ah, c5, n5, c15, c28, n28, c66, n66, c71, n71])) (K100 _ hl)
                  · -- f 71
                    have n71 := Int32.not_lt.mp c71
                    refine y_iload hE dX4_bidByPrice_74 (lv_at hl 1 rfl) ?_
                    refine y_if_ne (tgt := 99) hE dX4_bidByPrice_76 (by decide) (fun c76 => ?_) (fun c76 => ?_)
                    · -- t 76
                      refine y_iconst (v := 0) hE dX4_bidByPrice_99 (by decide) ?_
                      exact y_set1 ((by simp [bb_ah, c5, n5, c15, c28, n28, c66, n66, c71, n71, c76])) (K100 _ hl)
                    · -- f 76
                      refine y_iload hE dX4_bidByPrice_79 (lv_at hl 0 rfl) ?_
                      refine y_if_gt (tgt := 95) hE dX4_bidByPrice_81 (by decide) (fun c81 => ?_) (fun c81 => ?_)
                      · -- t 81
                        have n81 := Int32.not_le.mpr c81
                        refine y_iconst (v := 1) hE dX4_bidByPrice_95 (by decide) ?_
                        refine y_goto (tgt := 100) hE dX4_bidByPrice_96 (by decide) ?_
                        exact y_set1 ((by simp [bb_ah, c5, n5, c15, c28, n28, c66, n66, c71, n71, c76, c81, n81])) (K100 _ hl)
                      · -- f 81
                        have n81 := Int32.not_lt.mp c81
                        refine y_iload hE dX4_bidByPrice_84 (lv_at hl 0 rfl) ?_
                        refine y_if_ne (tgt := 99) hE dX4_bidByPrice_86 (by decide) (fun c86 => ?_) (fun c86 => ?_)
                        · -- t 86
                          refine y_iconst (v := 0) hE dX4_bidByPrice_99 (by decide) ?_
                          exact y_set1 ((by simp [bb_ah, c5, n5, c15, c28, n28, c66, n66, c71, n71, c76, c81, n81, c86])) (K100 _ hl)
                        · -- f 86
                          refine y_iload hE dX4_bidByPrice_89 (lv_at hl 2 rfl) ?_
                          refine y_iload_n hE dX4_bidByPrice_91 rfl (lv_at hl 4 rfl) ?_
                          refine y_icmp_ge (tgt := 99) hE dX4_bidByPrice_92 (by decide) (fun c92 => ?_) (fun c92 => ?_)
                          · -- t 92
                            have n92 := Int32.not_lt.mpr c92
                            refine y_iconst (v := 0) hE dX4_bidByPrice_99 (by decide) ?_
                            exact y_set1 ((by simp [bb_ah, c5, n5, c15, c28, n28, c66, n66, c71, n71, c76, c81, n81, c86, c92, n92])) (K100 _ hl)
                          · -- f 92
                            have n92 := Int32.not_le.mp c92
                            refine y_iconst (v := 1) hE dX4_bidByPrice_95 (by decide) ?_
                            refine y_goto (tgt := 100) hE dX4_bidByPrice_96 (by decide) ?_
                            exact y_set1 ((by simp [bb_ah, c5, n5, c15, c28, n28, c66, n66, c71, n71, c76, c81, n81, c86, c92, n92])) (K100 _ hl)
          exact K24 0 (Nat.zero_le _) _ _ (lv_sub hl [0, 1, 2, 3, 4] rfl) hW
        · -- f 15
          refine y_goto (tgt := 127) hE dX4_bidByPrice_18 (by decide) ?_
          refine y_iinc (v := nI (k + 1)) (lv' := [(2, .int (nI (k + 1))), (3, .int 0), (0, .ref (m 0)), (1, .int x)]) hE dX4_bidByPrice_127 hl (k := 1) rfl (nI_1 k) (by decide) rfl (fun ls hl => ?_)
          refine y_goto (tgt := 2) hE dX4_bidByPrice_130 (by decide) ?_
          exact ih2 _ _ (lv_sub hl [0, 2, 3] rfl) (hW.cast (by simp [th_g, c15]) rfl rfl rfl rfl rfl) (hv.trans (y_fst_n hk (by simp [bb_is, bb_n, c15])))
  exact K2 0 (Nat.zero_le _) _ _ (lv_sub hl [0, 1, 2] rfl) (hW.cast rfl rfl rfl rfl rfl rfl) rfl

set_option maxHeartbeats 1000000 in
theorem kX4_turbineByOutput {z : State} {D : yD} {m : Nat → Nat} {g B : Nat → Int32} {Bs : Nat → Nat → Int32} {L I C : Nat → Int32} (n : Nat) (x : Int32) (hn : B 0 = nI n) (hN : n ≤ 12) : yM yX4_turbineByOutput (ws_ yX4_turbineByOutput cX4_turbineByOutput 7 (some .int)) (rmD 7 0 0) z D [.ref (m 0), .int x] (tW z D m g B Bs L I C) eI (fun vr H => vr = m_o0 (y_fst (bo_is B n x) 0 n) ∧ tW z D m (fs_g g (y_fst (bo_is B n x) 0 n)) B Bs L I C H) 0 0 (tA m) := by
  refine yM_of (own := RX4) (by decide +kernel) rfl (Nat.le_of_ble_eq_true rfl) (fun H h => h.az) fun E hE hW ls hl hin => ?_
  obtain ⟨Q, hQ⟩ : ∃ Q, Q = yEm E eI (fun vr H => vr = m_o0 (y_fst (bo_is B n x) 0 n) ∧ tW z D m (fs_g g (y_fst (bo_is B n x) 0 n)) B Bs L I C H) 0 0 (tA m) := ⟨_, rfl⟩
  rw [← hQ]
  generalize (e_s E).heap = H at hW ⊢
  have hl : lv_has ls 7 [(0, .ref (m 0)), (1, .int x)] := hl
  refine y_iconst (v := 0) hE dX4_turbineByOutput_0 (by decide) ?_
  refine y_istore_n (lv' := [(2, .int 0), (0, .ref (m 0)), (1, .int x)]) hE dX4_turbineByOutput_1 rfl hl (by decide) rfl (fun ls hl => ?_)
  have K2 : ∀ k : Nat, k ≤ n → ∀ (H : Heap) (ls : Array Slot), lv_has ls 7 [(2, .int (nI k)), (0, .ref (m 0)), (1, .int x)] → tW z D m (th_g (fun _ => true) g k) B Bs L I C H → (y_fst (bo_is B n x) 0 n = y_fst (bo_is B n x) k (n - k)) → yY E (tA m) H 0 0 Q 2 ls [] := by
    refine y_loop ?_ ?_
    · -- the end of the loop at 2
      intro H ls hl hW hv
      refine y_iload_n hE dX4_turbineByOutput_2 rfl (lv_at hl 0 rfl) ?_
      refine y_aload_n hE dX4_turbineByOutput_3 rfl (lv_at hl 1 rfl) ?_
      refine t_get (v := .ref (m 1)) hE 1 (by decide) q1977 rfl hW rfl dX4_turbineByOutput_4 ?_
      refine y_iconst (v := 0) hE dX4_turbineByOutput_7 (by decide) ?_
      refine t_aldB (j := 0) (v := B 0) hE hW (rfl) (by decide) rfl dX4_turbineByOutput_8 ?_
      refine y_set1 (w := nI n) (hn) ?_
      refine y_icmp_ge (tgt := 123) hE dX4_turbineByOutput_9 (by decide) (fun c9 => ?_) (fun c9 => ?_)
      · -- t 9
        have n9 := Int32.not_lt.mpr c9
        refine y_aload_n hE dX4_turbineByOutput_123 rfl (lv_at hl 1 rfl) ?_
        refine y_iconst (v := 1) hE dX4_turbineByOutput_124 (by decide) ?_
        refine t_put (g' := upd (th_g (fun _ => true) g n) 0 1) hE hW 0 (by decide) q1976 rfl rfl rfl rfl rfl dX4_turbineByOutput_125 (fun H hW => ?_)
        refine y_iconst (v := 0) hE dX4_turbineByOutput_128 (by decide) ?_
        rw [hQ]
        exact y_iret hE dX4_turbineByOutput_129 ⟨(by rw [hv, y_fst_0]; rfl), (hW.cast (by rw [hv, y_fst_0]; exact th_g_u _ _ _ _) rfl rfl rfl rfl rfl)⟩ (Nat.le_of_ble_eq_true rfl) (Nat.le_of_ble_eq_true rfl)
      · -- f 9
        exact absurd (nI_le (Nat.le_refl _) (by omega)) c9
    · -- a round of the loop at 2
      intro k hk ih2 H ls hl hW hv
      refine y_iload_n hE dX4_turbineByOutput_2 rfl (lv_at hl 0 rfl) ?_
      refine y_aload_n hE dX4_turbineByOutput_3 rfl (lv_at hl 1 rfl) ?_
      refine t_get (v := .ref (m 1)) hE 1 (by decide) q1977 rfl hW rfl dX4_turbineByOutput_4 ?_
      refine y_iconst (v := 0) hE dX4_turbineByOutput_7 (by decide) ?_
      refine t_aldB (j := 0) (v := B 0) hE hW (rfl) (by decide) rfl dX4_turbineByOutput_8 ?_
      refine y_set1 (w := nI n) (hn) ?_
      refine y_icmp_ge (tgt := 123) hE dX4_turbineByOutput_9 (by decide) (fun c9 => ?_) (fun c9 => ?_)
      · -- t 9
        exact absurd c9 (nI_ge hk (by omega))
      · -- f 9
        have n9 := Int32.not_le.mp c9
        refine y_iconst (v := 0) hE dX4_turbineByOutput_12 (by decide) ?_
        refine y_istore_n (lv' := [(3, .int 0), (2, .int (nI k)), (0, .ref (m 0)), (1, .int x)]) hE dX4_turbineByOutput_13 rfl hl (by decide) rfl (fun ls hl => ?_)
        refine y_iconst (v := 0) hE dX4_turbineByOutput_14 (by decide) ?_
        refine y_istore (lv' := [(4, .int 0), (3, .int 0), (2, .int (nI k)), (0, .ref (m 0)), (1, .int x)]) hE dX4_turbineByOutput_15 hl (by decide) rfl (fun ls hl => ?_)
        have K17 : ∀ j : Nat, j ≤ n → ∀ (H : Heap) (ls : Array Slot), lv_has ls 7 [(4, .int (nI j)), (3, .int (y_sum (fun j => if bo_ah B n k j then 1 else 0) j)), (2, .int (nI k)), (0, .ref (m 0)), (1, .int x)] → tW z D m (th_g (fun _ => true) g k) B Bs L I C H → yY E (tA m) H 0 0 Q 17 ls [] := by
          refine y_loop ?_ ?_
          · -- the end of the loop at 17
            intro H ls hl hW 
            refine y_iload hE dX4_turbineByOutput_17 (lv_at hl 0 rfl) ?_
            refine y_aload_n hE dX4_turbineByOutput_19 rfl (lv_at hl 3 rfl) ?_
            refine t_get (v := .ref (m 1)) hE 1 (by decide) q1977 rfl hW rfl dX4_turbineByOutput_20 ?_
            refine y_iconst (v := 0) hE dX4_turbineByOutput_23 (by decide) ?_
            refine t_aldB (j := 0) (v := B 0) hE hW (rfl) (by decide) rfl dX4_turbineByOutput_24 ?_
            refine y_set1 (w := nI n) (hn) ?_
            refine y_icmp_ge (tgt := 98) hE dX4_turbineByOutput_25 (by decide) (fun c25 => ?_) (fun c25 => ?_)
            · -- t 25
              have n25 := Int32.not_lt.mpr c25
              refine y_aload_n hE dX4_turbineByOutput_98 rfl (lv_at hl 3 rfl) ?_
              refine y_iload_n hE dX4_turbineByOutput_99 rfl (lv_at hl 1 rfl) ?_
              refine y_iload_n hE dX4_turbineByOutput_100 rfl (lv_at hl 4 rfl) ?_
              refine y_icmp_ne (tgt := 108) hE dX4_turbineByOutput_101 (by decide) (fun c101 => ?_) (fun c101 => ?_)
              · -- t 101
                refine y_iconst (v := 0) hE dX4_turbineByOutput_108 (by decide) ?_
                -- call isFine ['false']
                refine y_muV (rest := []) hE cl_X4_49 (kX4_isFine false) dX4_turbineByOutput_109 hl (Nat.le_of_ble_eq_true rfl) (y_recv hE rfl hW.1) rfl rfl (Nat.le_of_ble_eq_true rfl) hW (fun _ h => h) ⟨(Nat.le_of_ble_eq_true rfl), (Nat.le_of_ble_eq_true rfl)⟩ (fun vr H hW _ _ => ?_)
                obtain ⟨hr, hW⟩ := hW
                subst hr
                have hW : tW z D m (upd (th_g (fun _ => true) g k) 0 1) B Bs L I C H := hW
                refine y_st (st' := [.int (zb false)]) rfl ?_
                refine y_if_eq (tgt := 117) hE dX4_turbineByOutput_112 (by decide) (fun c112 => ?_) (fun c112 => ?_)
                · -- t 112
                  rw [zb_0] at c112
                  refine y_iinc (v := nI (k + 1)) (lv' := [(2, .int (nI (k + 1))), (4, .int (nI n)), (3, .int (y_sum (fun j => if bo_ah B n k j then 1 else 0) n)), (0, .ref (m 0)), (1, .int x)]) hE dX4_turbineByOutput_117 hl (k := 2) rfl (nI_1 k) (by decide) rfl (fun ls hl => ?_)
                  refine y_goto (tgt := 2) hE dX4_turbineByOutput_120 (by decide) ?_
                  exact ih2 _ _ (lv_sub hl [0, 3, 4] rfl) (hW.cast rfl rfl rfl rfl rfl rfl) (hv.trans (y_fst_n hk (by simp [bo_is, bo_n, c101])))
                · -- f 112
                  rw [zb_1] at c112
                  exact absurd c112 (by decide)
              · -- f 101
                refine y_iconst (v := 1) hE dX4_turbineByOutput_104 (by decide) ?_
                refine y_goto (tgt := 109) hE dX4_turbineByOutput_105 (by decide) ?_
                -- call isFine ['true']
                refine y_muV (rest := []) hE cl_X4_49 (kX4_isFine true) dX4_turbineByOutput_109 hl (Nat.le_of_ble_eq_true rfl) (y_recv hE rfl hW.1) rfl rfl (Nat.le_of_ble_eq_true rfl) hW (fun _ h => h) ⟨(Nat.le_of_ble_eq_true rfl), (Nat.le_of_ble_eq_true rfl)⟩ (fun vr H hW _ _ => ?_)
                obtain ⟨hr, hW⟩ := hW
                subst hr
                have hW : tW z D m (upd (th_g (fun _ => true) g k) 0 0) B Bs L I C H := hW
                refine y_st (st' := [.int (zb true)]) rfl ?_
                refine y_if_eq (tgt := 117) hE dX4_turbineByOutput_112 (by decide) (fun c112 => ?_) (fun c112 => ?_)
                · -- t 112
                  rw [zb_0] at c112
                  exact absurd c112 (by decide)
                · -- f 112
                  rw [zb_1] at c112
                  refine y_iload_n hE dX4_turbineByOutput_115 rfl (lv_at hl 2 rfl) ?_
                  rw [hQ]
                  exact y_iret hE dX4_turbineByOutput_116 ⟨(by rw [hv, y_fst_y hk (by simp [bo_is, bo_n, c101])]; rfl), (hW.cast (by rw [hv, y_fst_y hk (by simp [bo_is, bo_n, c101])]; exact th_g_u _ _ _ _) rfl rfl rfl rfl rfl)⟩ (Nat.le_of_ble_eq_true rfl) (Nat.le_of_ble_eq_true rfl)
            · -- f 25
              exact absurd (nI_le (Nat.le_refl _) (by omega)) c25
          · -- a round of the loop at 17
            intro j hj ih17 H ls hl hW 
            refine y_iload hE dX4_turbineByOutput_17 (lv_at hl 0 rfl) ?_
            refine y_aload_n hE dX4_turbineByOutput_19 rfl (lv_at hl 3 rfl) ?_
            refine t_get (v := .ref (m 1)) hE 1 (by decide) q1977 rfl hW rfl dX4_turbineByOutput_20 ?_
            refine y_iconst (v := 0) hE dX4_turbineByOutput_23 (by decide) ?_
            refine t_aldB (j := 0) (v := B 0) hE hW (rfl) (by decide) rfl dX4_turbineByOutput_24 ?_
            refine y_set1 (w := nI n) (hn) ?_
            refine y_icmp_ge (tgt := 98) hE dX4_turbineByOutput_25 (by decide) (fun c25 => ?_) (fun c25 => ?_)
            · -- t 25
              exact absurd c25 (nI_ge hj (by omega))
            · -- f 25
              have n25 := Int32.not_le.mp c25
              refine y_aload_n hE dX4_turbineByOutput_28 rfl (lv_at hl 3 rfl) ?_
              refine y_iload hE dX4_turbineByOutput_29 (lv_at hl 0 rfl) ?_
              -- call output ['j']
              refine y_roV (rest := []) hE cl_X4_77 (kX4_output n j (by repeat (first | exact hn | rw [upd_ne (by omega)] | rw [m_cuts_lo _ _ (by omega)] | rw [m_ticks_lo _ (by omega)] | rw [m_rels_lo _ (by omega)] | rw [m_hours_lo _ _ _ (by omega)] | rw [m_pay_lo _ _ _ (by omega)] | rw [tGo_2])) hN (by omega)) dX4_turbineByOutput_31 hl (Nat.le_of_ble_eq_true rfl) (y_recv hE rfl hW.1) rfl rfl (Nat.le_of_ble_eq_true rfl) hW ⟨(Nat.le_of_ble_eq_true rfl), (Nat.le_of_ble_eq_true rfl)⟩ ?_
              refine y_aload_n hE dX4_turbineByOutput_34 rfl (lv_at hl 3 rfl) ?_
              refine y_iload_n hE dX4_turbineByOutput_35 rfl (lv_at hl 2 rfl) ?_
              -- call output ['k']
              refine y_roV (rest := [.int (m_out B n j)]) hE cl_X4_77 (kX4_output n k (by repeat (first | exact hn | rw [upd_ne (by omega)] | rw [m_cuts_lo _ _ (by omega)] | rw [m_ticks_lo _ (by omega)] | rw [m_rels_lo _ (by omega)] | rw [m_hours_lo _ _ _ (by omega)] | rw [m_pay_lo _ _ _ (by omega)] | rw [tGo_2])) hN (by omega)) dX4_turbineByOutput_36 hl (Nat.le_of_ble_eq_true rfl) (y_recv hE rfl hW.1) rfl rfl (Nat.le_of_ble_eq_true rfl) hW ⟨(Nat.le_of_ble_eq_true rfl), (Nat.le_of_ble_eq_true rfl)⟩ ?_
              refine y_isub hE dX4_turbineByOutput_39 ?_
              refine y_istore (lv' := [(5, .int ((m_out B n j) - (m_out B n k))), (4, .int (nI j)), (3, .int (y_sum (fun j => if bo_ah B n k j then 1 else 0) j)), (2, .int (nI k)), (0, .ref (m 0)), (1, .int x)]) hE dX4_turbineByOutput_40 hl (by decide) rfl (fun ls hl => ?_)
              refine y_aload_n hE dX4_turbineByOutput_42 rfl (lv_at hl 4 rfl) ?_
              refine y_iload hE dX4_turbineByOutput_43 (lv_at hl 1 rfl) ?_
              refine y_iconst (v := 2) hE dX4_turbineByOutput_45 (by decide) ?_
              -- call t ['j', '2']
              refine y_roV (rest := []) hE cl_X4_57 (kX4_t j 2 (by omega) (by omega)) dX4_turbineByOutput_46 hl (Nat.le_of_ble_eq_true rfl) (y_recv hE rfl hW.1) rfl rfl (Nat.le_of_ble_eq_true rfl) hW ⟨(Nat.le_of_ble_eq_true rfl), (Nat.le_of_ble_eq_true rfl)⟩ ?_
              refine y_aload_n hE dX4_turbineByOutput_49 rfl (lv_at hl 4 rfl) ?_
              refine y_iload_n hE dX4_turbineByOutput_50 rfl (lv_at hl 3 rfl) ?_
              refine y_iconst (v := 2) hE dX4_turbineByOutput_51 (by decide) ?_
              -- call t ['k', '2']
              refine y_roV (rest := [.int (m_t B j 2)]) hE cl_X4_57 (kX4_t k 2 (by omega) (by omega)) dX4_turbineByOutput_52 hl (Nat.le_of_ble_eq_true rfl) (y_recv hE rfl hW.1) rfl rfl (Nat.le_of_ble_eq_true rfl) hW ⟨(Nat.le_of_ble_eq_true rfl), (Nat.le_of_ble_eq_true rfl)⟩ ?_
              refine y_isub hE dX4_turbineByOutput_55 ?_
              refine y_istore (lv' := [(6, .int ((m_t B j 2) - (m_t B k 2))), (5, .int ((m_out B n j) - (m_out B n k))), (4, .int (nI j)), (3, .int (y_sum (fun j => if bo_ah B n k j then 1 else 0) j)), (2, .int (nI k)), (0, .ref (m 0)), (1, .int x)]) hE dX4_turbineByOutput_56 hl (by decide) rfl (fun ls hl => ?_)
              refine y_iload_n hE dX4_turbineByOutput_58 rfl (lv_at hl 3 rfl) ?_
              refine y_iload hE dX4_turbineByOutput_59 (lv_at hl 1 rfl) ?_
              have K90 : ∀ ls : Array Slot, lv_has ls 7 [(6, .int ((m_t B j 2) - (m_t B k 2))), (5, .int ((m_out B n j) - (m_out B n k))), (4, .int (nI j)), (3, .int (y_sum (fun j => if bo_ah B n k j then 1 else 0) j)), (2, .int (nI k)), (0, .ref (m 0)), (1, .int x)] → yY E (tA m) H 0 0 Q 90 ls [.int (if bo_ah B n k j then 1 else 0), .int (y_sum (fun j => if bo_ah B n k j then 1 else 0) j)] := by
                intro ls hl
                refine y_iadd hE dX4_turbineByOutput_90 ?_
                refine y_istore_n (lv' := [(3, .int ((y_sum (fun j => if bo_ah B n k j then 1 else 0) j) + (if bo_ah B n k j then 1 else 0))), (6, .int ((m_t B j 2) - (m_t B k 2))), (5, .int ((m_out B n j) - (m_out B n k))), (4, .int (nI j)), (2, .int (nI k)), (0, .ref (m 0)), (1, .int x)]) hE dX4_turbineByOutput_91 rfl hl (by decide) rfl (fun ls hl => ?_)
                refine y_iinc (v := nI (j + 1)) (lv' := [(4, .int (nI (j + 1))), (3, .int ((y_sum (fun j => if bo_ah B n k j then 1 else 0) j) + (if bo_ah B n k j then 1 else 0))), (6, .int ((m_t B j 2) - (m_t B k 2))), (5, .int ((m_out B n j) - (m_out B n k))), (2, .int (nI k)), (0, .ref (m 0)), (1, .int x)]) hE dX4_turbineByOutput_92 hl (k := 3) rfl (nI_1 j) (by decide) rfl (fun ls hl => ?_)
                refine y_goto (tgt := 17) hE dX4_turbineByOutput_95 (by decide) ?_
                exact ih17 _ _ (lv_sub hl [0, 1, 4, 5, 6] rfl) hW
              refine y_if_gt (tgt := 85) hE dX4_turbineByOutput_61 (by decide) (fun c61 => ?_) (fun c61 => ?_)
              · -- t 61
                have n61 := Int32.not_le.mpr c61
                refine y_iconst (v := 1) hE dX4_turbineByOutput_85 (by decide) ?_
                refine y_goto (tgt := 90) hE dX4_turbineByOutput_86 (by decide) ?_
                exact y_set1 ((by simp [bo_ah, c9, n9, c25, n25, c61, n61])) (K90 _ hl)
              · -- f 61
                have n61 := Int32.not_lt.mp c61
                refine y_iload hE dX4_turbineByOutput_64 (lv_at hl 1 rfl) ?_
                refine y_if_ne (tgt := 89) hE dX4_turbineByOutput_66 (by decide) (fun c66 => ?_) (fun c66 => ?_)
                · -- t 66
                  refine y_iconst (v := 0) hE dX4_turbineByOutput_89 (by decide) ?_
                  exact y_set1 ((by simp [bo_ah, c9, n9, c25, n25, c61, n61, c66])) (K90 _ hl)
                · -- f 66
                  refine y_iload hE dX4_turbineByOutput_69 (lv_at hl 0 rfl) ?_
                  refine y_if_gt (tgt := 85) hE dX4_turbineByOutput_71 (by decide) (fun c71 => ?_) (fun c71 => ?_)
                  · -- t 71
                    have n71 := Int32.not_le.mpr c71
                    refine y_iconst (v := 1) hE dX4_turbineByOutput_85 (by decide) ?_
                    refine y_goto (tgt := 90) hE dX4_turbineByOutput_86 (by decide) ?_
                    exact y_set1 ((by simp [bo_ah, c9, n9, c25, n25, c61, n61, c66, c71, n71])) (K90 _ hl)
                  · -- f 71
                    have n71 := Int32.not_lt.mp c71
                    refine y_iload hE dX4_turbineByOutput_74 (lv_at hl 0 rfl) ?_
                    refine y_if_ne (tgt := 89) hE dX4_turbineByOutput_76 (by decide) (fun c76 => ?_) (fun c76 => ?_)
                    · -- t 76
                      refine y_iconst (v := 0) hE dX4_turbineByOutput_89 (by decide) ?_
                      exact y_set1 ((by simp [bo_ah, c9, n9, c25, n25, c61, n61, c66, c71, n71, c76])) (K90 _ hl)
                    · -- f 76
                      refine y_iload hE dX4_turbineByOutput_79 (lv_at hl 2 rfl) ?_
                      refine y_iload_n hE dX4_turbineByOutput_81 rfl (lv_at hl 4 rfl) ?_
                      refine y_icmp_ge (tgt := 89) hE dX4_turbineByOutput_82 (by decide) (fun c82 => ?_) (fun c82 => ?_)
                      · -- t 82
                        have n82 := Int32.not_lt.mpr c82
                        refine y_iconst (v := 0) hE dX4_turbineByOutput_89 (by decide) ?_
                        exact y_set1 ((by simp [bo_ah, c9, n9, c25, n25, c61, n61, c66, c71, n71, c76, c82, n82])) (K90 _ hl)
                      · -- f 82
                        have n82 := Int32.not_le.mp c82
                        refine y_iconst (v := 1) hE dX4_turbineByOutput_85 (by decide) ?_
                        refine y_goto (tgt := 90) hE dX4_turbineByOutput_86 (by decide) ?_
                        exact y_set1 ((by simp [bo_ah, c9, n9, c25, n25, c61, n61, c66, c71, n71, c76, c82, n82])) (K90 _ hl)
        exact K17 0 (Nat.zero_le _) _ _ (lv_sub hl [0, 1, 2, 3, 4] rfl) hW
  exact K2 0 (Nat.zero_le _) _ _ (lv_sub hl [0, 1, 2] rfl) (hW.cast rfl rfl rfl rfl rfl rfl) rfl

set_option maxHeartbeats 1000000 in
theorem kX4_hoursToBid {z : State} {D : yD} {m : Nat → Nat} {g B : Nat → Int32} {Bs : Nat → Nat → Int32} {L I C : Nat → Int32} (t : Nat) (hT : B 4 = nI t) (ht : t < 2 ^ 20) : yM yX4_hoursToBid (ws_ yX4_hoursToBid cX4_hoursToBid 2 (some .int)) (rmD 2 0 0) z D [.ref (m 0)] (tW z D m g B Bs L I C) eI (fun vr H => vr = m_o0 (m_toBid B t) ∧ tW z D m (fs_g g (m_toBid B t)) B Bs L I C H) 0 0 (tA m) := by
  refine yM_of (own := RX4) (by decide +kernel) rfl (Nat.le_of_ble_eq_true rfl) (fun H h => h.az) fun E hE hW ls hl hin => ?_
  obtain ⟨Q, hQ⟩ : ∃ Q, Q = yEm E eI (fun vr H => vr = m_o0 (m_toBid B t) ∧ tW z D m (fs_g g (m_toBid B t)) B Bs L I C H) 0 0 (tA m) := ⟨_, rfl⟩
  rw [← hQ]
  generalize (e_s E).heap = H at hW ⊢
  have hl : lv_has ls 2 [(0, .ref (m 0))] := hl
  refine y_iconst (v := 0) hE dX4_hoursToBid_0 (by decide) ?_
  refine y_istore_n (lv' := [(1, .int 0), (0, .ref (m 0))]) hE dX4_hoursToBid_1 rfl hl (by decide) rfl (fun ls hl => ?_)
  have K2 : ∀ k : Nat, k ≤ 24 → ∀ (H : Heap) (ls : Array Slot), lv_has ls 2 [(1, .int (nI k)), (0, .ref (m 0))] → tW z D m (th_g (fun _ => true) g k) B Bs L I C H → (y_fst (fun k => decide (0 < m_price B ((t + k) % 24))) 0 24 = y_fst (fun k => decide (0 < m_price B ((t + k) % 24))) k (24 - k)) → yY E (tA m) H 0 0 Q 2 ls [] := by
    refine y_loop ?_ ?_
    · -- the end of the loop at 2
      intro H ls hl hW hv
      refine y_iload_n hE dX4_hoursToBid_2 rfl (lv_at hl 0 rfl) ?_
      refine y_bipush (v := 24) hE dX4_hoursToBid_3 (by decide) ?_
      refine y_set1 (w := nI 24) (rfl) ?_
      refine y_icmp_ge (tgt := 46) hE dX4_hoursToBid_5 (by decide) (fun c5 => ?_) (fun c5 => ?_)
      · -- t 5
        have n5 := Int32.not_lt.mpr c5
        refine y_aload_n hE dX4_hoursToBid_46 rfl (lv_at hl 1 rfl) ?_
        refine y_iconst (v := 1) hE dX4_hoursToBid_47 (by decide) ?_
        refine t_put (g' := upd (th_g (fun _ => true) g 24) 0 1) hE hW 0 (by decide) q1976 rfl rfl rfl rfl rfl dX4_hoursToBid_48 (fun H hW => ?_)
        refine y_iconst (v := 0) hE dX4_hoursToBid_51 (by decide) ?_
        rw [hQ]
        exact y_iret hE dX4_hoursToBid_52 ⟨(by rw [m_toBid, hv, y_fst_0]; rfl), (hW.cast (by rw [m_toBid, hv, y_fst_0]; exact th_g_u _ _ _ _) rfl rfl rfl rfl rfl)⟩ (Nat.le_of_ble_eq_true rfl) (Nat.le_of_ble_eq_true rfl)
      · -- f 5
        exact absurd (nI_le (Nat.le_refl _) (by omega)) c5
    · -- a round of the loop at 2
      intro k hk ih2 H ls hl hW hv
      refine y_iload_n hE dX4_hoursToBid_2 rfl (lv_at hl 0 rfl) ?_
      refine y_bipush (v := 24) hE dX4_hoursToBid_3 (by decide) ?_
      refine y_set1 (w := nI 24) (rfl) ?_
      refine y_icmp_ge (tgt := 46) hE dX4_hoursToBid_5 (by decide) (fun c5 => ?_) (fun c5 => ?_)
      · -- t 5
        exact absurd c5 (nI_ge hk (by omega))
      · -- f 5
        have n5 := Int32.not_le.mp c5
        refine y_aload_n hE dX4_hoursToBid_8 rfl (lv_at hl 1 rfl) ?_
        refine y_aload_n hE dX4_hoursToBid_9 rfl (lv_at hl 1 rfl) ?_
        refine y_aload_n hE dX4_hoursToBid_10 rfl (lv_at hl 1 rfl) ?_
        refine t_get (v := .ref (m 1)) hE 1 (by decide) q1977 rfl hW rfl dX4_hoursToBid_11 ?_
        refine y_iconst (v := 4) hE dX4_hoursToBid_14 (by decide) ?_
        refine t_aldB (j := 4) (v := B 4) hE hW (rfl) (by decide) rfl dX4_hoursToBid_15 ?_
        refine y_iload_n hE dX4_hoursToBid_16 rfl (lv_at hl 0 rfl) ?_
        refine y_iadd hE dX4_hoursToBid_17 ?_
        refine y_set1 (w := nI (t + k)) (by rw [hT]; exact nI_add t k) ?_
        refine y_bipush (v := 24) hE dX4_hoursToBid_18 (by decide) ?_
        refine y_irem hE dX4_hoursToBid_20 (by decide) ?_
        refine y_set1 (w := nI ((t + k) % 24)) (nI_mod24 (by omega)) ?_
        have h24 : (t + k) % 24 < 24 := by omega
        -- call price ['((t + k) % 24)']
        refine y_roV (rest := [.ref (m 0)]) hE cl_X4_147 (kX4_price ((t + k) % 24) (by omega)) dX4_hoursToBid_21 hl (Nat.le_of_ble_eq_true rfl) (y_recv hE rfl hW.1) rfl rfl (Nat.le_of_ble_eq_true rfl) hW ⟨(Nat.le_of_ble_eq_true rfl), (Nat.le_of_ble_eq_true rfl)⟩ ?_
        refine y_if_le (tgt := 31) hE dX4_hoursToBid_24 (by decide) (fun c24 => ?_) (fun c24 => ?_)
        · -- t 24
          have n24 := Int32.not_lt.mpr c24
          refine y_iconst (v := 0) hE dX4_hoursToBid_31 (by decide) ?_
          -- call isFine ['false']
          refine y_muV (rest := []) hE cl_X4_49 (kX4_isFine false) dX4_hoursToBid_32 hl (Nat.le_of_ble_eq_true rfl) (y_recv hE rfl hW.1) rfl rfl (Nat.le_of_ble_eq_true rfl) hW (fun _ h => h) ⟨(Nat.le_of_ble_eq_true rfl), (Nat.le_of_ble_eq_true rfl)⟩ (fun vr H hW _ _ => ?_)
          obtain ⟨hr, hW⟩ := hW
          subst hr
          have hW : tW z D m (upd (th_g (fun _ => true) g k) 0 1) B Bs L I C H := hW
          refine y_st (st' := [.int (zb false)]) rfl ?_
          refine y_if_eq (tgt := 40) hE dX4_hoursToBid_35 (by decide) (fun c35 => ?_) (fun c35 => ?_)
          · -- t 35
            rw [zb_0] at c35
            refine y_iinc (v := nI (k + 1)) (lv' := [(1, .int (nI (k + 1))), (0, .ref (m 0))]) hE dX4_hoursToBid_40 hl (k := 0) rfl (nI_1 k) (by decide) rfl (fun ls hl => ?_)
            refine y_goto (tgt := 2) hE dX4_hoursToBid_43 (by decide) ?_
            exact ih2 _ _ (lv_sub hl [0, 1] rfl) (hW.cast rfl rfl rfl rfl rfl rfl) (hv.trans (y_fst_n hk (by simpa using n24)))
          · -- f 35
            rw [zb_1] at c35
            exact absurd c35 (by decide)
        · -- f 24
          have n24 := Int32.not_le.mp c24
          refine y_iconst (v := 1) hE dX4_hoursToBid_27 (by decide) ?_
          refine y_goto (tgt := 32) hE dX4_hoursToBid_28 (by decide) ?_
          -- call isFine ['true']
          refine y_muV (rest := []) hE cl_X4_49 (kX4_isFine true) dX4_hoursToBid_32 hl (Nat.le_of_ble_eq_true rfl) (y_recv hE rfl hW.1) rfl rfl (Nat.le_of_ble_eq_true rfl) hW (fun _ h => h) ⟨(Nat.le_of_ble_eq_true rfl), (Nat.le_of_ble_eq_true rfl)⟩ (fun vr H hW _ _ => ?_)
          obtain ⟨hr, hW⟩ := hW
          subst hr
          have hW : tW z D m (upd (th_g (fun _ => true) g k) 0 0) B Bs L I C H := hW
          refine y_st (st' := [.int (zb true)]) rfl ?_
          refine y_if_eq (tgt := 40) hE dX4_hoursToBid_35 (by decide) (fun c35 => ?_) (fun c35 => ?_)
          · -- t 35
            rw [zb_0] at c35
            exact absurd c35 (by decide)
          · -- f 35
            rw [zb_1] at c35
            refine y_iload_n hE dX4_hoursToBid_38 rfl (lv_at hl 0 rfl) ?_
            rw [hQ]
            exact y_iret hE dX4_hoursToBid_39 ⟨(by rw [m_toBid, hv, y_fst_y hk (by simpa using n24)]; rfl), (hW.cast (by rw [m_toBid, hv, y_fst_y hk (by simpa using n24)]; exact th_g_u _ _ _ _) rfl rfl rfl rfl rfl)⟩ (Nat.le_of_ble_eq_true rfl) (Nat.le_of_ble_eq_true rfl)
  exact K2 0 (Nat.zero_le _) _ _ (lv_sub hl [0, 1] rfl) (hW.cast rfl rfl rfl rfl rfl rfl) rfl

set_option maxHeartbeats 1000000 in
theorem kX4_incomeWithin {z : State} {D : yD} {m : Nat → Nat} {g B : Nat → Int32} {Bs : Nat → Nat → Int32} {L I C : Nat → Int32} (n : Nat) (t : Nat) (x : Int32) (hn : B 0 = nI n) (hN : n ≤ 12) (hT : B 4 = nI t) (ht : t + 50 < 2 ^ 20) : yM yX4_incomeWithin (ws_ yX4_incomeWithin cX4_incomeWithin 3 (some .int)) (rmD 9 0 0) z D [.ref (m 0), .int x] (tW z D m g B Bs L I C) eI (fun vr H => vr = (q_inc B n t x).1 ∧ tW z D m (upd g 0 (q_inc B n t x).2) B (q_incB B Bs x) L I C H) 0 0 (tA m) := by
  refine yM_of (own := RX4) (by decide +kernel) rfl (Nat.le_of_ble_eq_true rfl) (fun H h => h.az) fun E hE hW ls hl hin => ?_
  obtain ⟨Q, hQ⟩ : ∃ Q, Q = yEm E eI (fun vr H => vr = (q_inc B n t x).1 ∧ tW z D m (upd g 0 (q_inc B n t x).2) B (q_incB B Bs x) L I C H) 0 0 (tA m) := ⟨_, rfl⟩
  rw [← hQ]
  generalize (e_s E).heap = H at hW ⊢
  have hl : lv_has ls 3 [(0, .ref (m 0)), (1, .int x)] := hl
  rcases m_48_or x with ⟨hx, hxi⟩ | ⟨k, hk, rfl, hx, hxi⟩
  · -- no such place
    refine y_aload_n hE dX4_incomeWithin_0 rfl (lv_at hl 0 rfl) ?_
    refine y_iload_n hE dX4_incomeWithin_1 rfl (lv_at hl 1 rfl) ?_
    refine y_iconst (v := 1) hE dX4_incomeWithin_2 (by decide) ?_
    refine y_bipush (v := 48) hE dX4_incomeWithin_3 (by decide) ?_
    -- call in ['x', '1', '48']
    refine y_roS (rest := [.ref (m 0)]) hE cl_X4_53 (kX4_in x 1 48) dX4_incomeWithin_5 hl (Nat.le_of_ble_eq_true rfl) rfl rfl (Nat.le_of_ble_eq_true rfl) trivial ⟨(Nat.le_of_ble_eq_true rfl), (Nat.le_of_ble_eq_true rfl)⟩ ?_
    -- call isFine ['(m_in x 1 48)']
    refine y_muV (rest := []) hE cl_X4_49 (kX4_isFine (m_in x 1 48)) dX4_incomeWithin_8 hl (Nat.le_of_ble_eq_true rfl) (y_recv hE rfl hW.1) rfl rfl (Nat.le_of_ble_eq_true rfl) hW (fun _ h => h) ⟨(Nat.le_of_ble_eq_true rfl), (Nat.le_of_ble_eq_true rfl)⟩ (fun vr H hW _ _ => ?_)
    obtain ⟨hr, hW⟩ := hW
    subst hr
    have hW : tW z D m (upd g 0 (zb (!(m_in x 1 48)))) B Bs L I C H := hW
    refine y_st (st' := [.int (zb (m_in x 1 48))]) rfl ?_
    refine y_if_ne (tgt := 16) hE dX4_incomeWithin_11 (by decide) (fun c11 => ?_) (fun c11 => ?_)
    · -- t 11
      rw [zb_1] at c11
      exact absurd c11 (by simp [hx])
    · -- f 11
      rw [zb_0] at c11
      refine y_iconst (v := 0) hE dX4_incomeWithin_14 (by decide) ?_
      rw [hQ]
      exact y_iret hE dX4_incomeWithin_15 ⟨(by simp [q_inc, q_incB, hxi, sRow_at]), (hW.cast (by simp [q_inc, hxi, hx, zb]) rfl (by simp [q_incB, hxi]) rfl rfl rfl)⟩ (Nat.le_of_ble_eq_true rfl) (Nat.le_of_ble_eq_true rfl)
  · -- a place
    have hl : lv_has ls 3 [(0, .ref (m 0)), (1, .int (nI k))] := hl
    refine y_aload_n hE dX4_incomeWithin_0 rfl (lv_at hl 0 rfl) ?_
    refine y_iload_n hE dX4_incomeWithin_1 rfl (lv_at hl 1 rfl) ?_
    refine y_iconst (v := 1) hE dX4_incomeWithin_2 (by decide) ?_
    refine y_bipush (v := 48) hE dX4_incomeWithin_3 (by decide) ?_
    -- call in ['nI k', '1', '48']
    refine y_roS (rest := [.ref (m 0)]) hE cl_X4_53 (kX4_in (nI k) 1 48) dX4_incomeWithin_5 hl (Nat.le_of_ble_eq_true rfl) rfl rfl (Nat.le_of_ble_eq_true rfl) trivial ⟨(Nat.le_of_ble_eq_true rfl), (Nat.le_of_ble_eq_true rfl)⟩ ?_
    -- call isFine ['(m_in (nI k) 1 48)']
    refine y_muV (rest := []) hE cl_X4_49 (kX4_isFine (m_in (nI k) 1 48)) dX4_incomeWithin_8 hl (Nat.le_of_ble_eq_true rfl) (y_recv hE rfl hW.1) rfl rfl (Nat.le_of_ble_eq_true rfl) hW (fun _ h => h) ⟨(Nat.le_of_ble_eq_true rfl), (Nat.le_of_ble_eq_true rfl)⟩ (fun vr H hW _ _ => ?_)
    obtain ⟨hr, hW⟩ := hW
    subst hr
    have hW : tW z D m (upd g 0 (zb (!(m_in (nI k) 1 48)))) B Bs L I C H := hW
    refine y_st (st' := [.int (zb (m_in (nI k) 1 48))]) rfl ?_
    refine y_if_ne (tgt := 16) hE dX4_incomeWithin_11 (by decide) (fun c11 => ?_) (fun c11 => ?_)
    · -- t 11
      rw [zb_1] at c11
      refine y_aload_n hE dX4_incomeWithin_16 rfl (lv_at hl 0 rfl) ?_
      refine y_iconst (v := 0) hE dX4_incomeWithin_17 (by decide) ?_
      refine y_bipush (v := 11) hE dX4_incomeWithin_18 (by decide) ?_
      -- call copies ['0', '11']
      refine y_muV (rest := []) hE cl_X4_30 (kX4_copies_0j 11 (by omega) (by omega)) dX4_incomeWithin_20 hl (Nat.le_of_ble_eq_true rfl) (y_recv hE rfl hW.1) rfl rfl (Nat.le_of_ble_eq_true rfl) hW (fun _ h => h) ⟨(Nat.le_of_ble_eq_true rfl), (Nat.le_of_ble_eq_true rfl)⟩ (fun vr H hW _ _ => ?_)
      have hW : tW z D m (upd g 0 (zb (!(m_in (nI k) 1 48)))) B (sRow Bs 11 B) L I C H := hW
      refine y_st (st' := []) rfl ?_
      refine y_iconst (v := 0) hE dX4_incomeWithin_23 (by decide) ?_
      refine y_istore_n (lv' := [(2, .int 0), (0, .ref (m 0)), (1, .int (nI k))]) hE dX4_incomeWithin_24 rfl hl (by decide) rfl (fun ls hl => ?_)
      have K25 : ∀ i : Nat, i ≤ k → ∀ (H : Heap) (ls : Array Slot), lv_has ls 3 [(2, .int (nI i)), (0, .ref (m 0)), (1, .int (nI k))] → tW z D m (upd g 0 (zb (!(m_in (nI k) 1 48)))) (m_hours B n t i) (sRow Bs 11 B) L I C H → yY E (tA m) H 0 0 Q 25 ls [] := by
        refine y_loop ?_ ?_
        · -- the end of the loop at 25
          intro H ls hl hW 
          refine y_iload_n hE dX4_incomeWithin_25 rfl (lv_at hl 0 rfl) ?_
          refine y_iload_n hE dX4_incomeWithin_26 rfl (lv_at hl 2 rfl) ?_
          refine y_icmp_ge (tgt := 40) hE dX4_incomeWithin_27 (by decide) (fun c27 => ?_) (fun c27 => ?_)
          · -- t 27
            have n27 := Int32.not_lt.mpr c27
            refine y_aload_n hE dX4_incomeWithin_40 rfl (lv_at hl 1 rfl) ?_
            refine t_get (v := .ref (m 1)) hE 1 (by decide) q1977 rfl hW rfl dX4_incomeWithin_41 ?_
            refine y_bipush (v := 8) hE dX4_incomeWithin_44 (by decide) ?_
            refine t_aldB (j := 8) (v := (m_hours B n t k) 8) hE hW (rfl) (by decide) rfl dX4_incomeWithin_46 ?_
            refine y_aload_n hE dX4_incomeWithin_47 rfl (lv_at hl 1 rfl) ?_
            refine t_get (v := .ref (m 1)) hE 1 (by decide) q1977 rfl hW rfl dX4_incomeWithin_48 ?_
            refine y_sipush (v := 1427) hE dX4_incomeWithin_51 (by decide) ?_
            -- the cell
            refine t_aldH (b := 11) (k := 8) hE hW rfl (by omega) (by omega) (by omega) dX4_incomeWithin_54 ?_
            refine y_isub hE dX4_incomeWithin_55 ?_
            refine y_istore_n (lv' := [(2, .int (((m_hours B n t k) 8) - ((sRow Bs 11 B) 11 8))), (0, .ref (m 0)), (1, .int (nI k))]) hE dX4_incomeWithin_56 rfl hl (by decide) rfl (fun ls hl => ?_)
            refine y_aload_n hE dX4_incomeWithin_57 rfl (lv_at hl 1 rfl) ?_
            refine y_bipush (v := 11) hE dX4_incomeWithin_58 (by decide) ?_
            refine y_iconst (v := 0) hE dX4_incomeWithin_60 (by decide) ?_
            -- call copies ['11', '0']
            refine y_muV (rest := []) hE cl_X4_30 (kX4_copies_j0 11 (by omega) (by omega)) dX4_incomeWithin_61 hl (Nat.le_of_ble_eq_true rfl) (y_recv hE rfl hW.1) rfl rfl (Nat.le_of_ble_eq_true rfl) hW (fun _ h => h) ⟨(Nat.le_of_ble_eq_true rfl), (Nat.le_of_ble_eq_true rfl)⟩ (fun vr H hW _ _ => ?_)
            have hW : tW z D m (upd g 0 (zb (!(m_in (nI k) 1 48)))) ((sRow Bs 11 B) 11) (sRow Bs 11 B) L I C H := hW
            refine y_st (st' := []) rfl ?_
            refine y_iload_n hE dX4_incomeWithin_64 rfl (lv_at hl 0 rfl) ?_
            rw [hQ]
            exact y_iret hE dX4_incomeWithin_65 ⟨(by simp [q_inc, q_incB, hxi, sRow_at]), (hW.cast (by simp [q_inc, hxi, hx, zb]) (sRow_at _ _ _) (by simp [q_incB, hxi]) rfl rfl rfl)⟩ (Nat.le_of_ble_eq_true rfl) (Nat.le_of_ble_eq_true rfl)
          · -- f 27
            exact absurd (nI_le (Nat.le_refl _) (by omega)) c27
        · -- a round of the loop at 25
          intro i hi ih25 H ls hl hW 
          refine y_iload_n hE dX4_incomeWithin_25 rfl (lv_at hl 0 rfl) ?_
          refine y_iload_n hE dX4_incomeWithin_26 rfl (lv_at hl 2 rfl) ?_
          refine y_icmp_ge (tgt := 40) hE dX4_incomeWithin_27 (by decide) (fun c27 => ?_) (fun c27 => ?_)
          · -- t 27
            exact absurd c27 (nI_ge hi (by omega))
          · -- f 27
            have n27 := Int32.not_le.mp c27
            refine y_aload_n hE dX4_incomeWithin_30 rfl (lv_at hl 1 rfl) ?_
            -- call passes []
            refine y_muV (rest := []) hE cl_X4_165 (kX4_passes n (t + i) (by repeat (first | exact hn | rw [upd_ne (by omega)] | rw [m_cuts_lo _ _ (by omega)] | rw [m_ticks_lo _ (by omega)] | rw [m_rels_lo _ (by omega)] | rw [m_hours_lo _ _ _ (by omega)] | rw [m_pay_lo _ _ _ (by omega)] | rw [tGo_2])) hN (m_hours_4 _ _ _ hT i) (by omega)) dX4_incomeWithin_31 hl (Nat.le_of_ble_eq_true rfl) (y_recv hE rfl hW.1) rfl rfl (Nat.le_of_ble_eq_true rfl) hW (fun _ h => h) ⟨(Nat.le_of_ble_eq_true rfl), (Nat.le_of_ble_eq_true rfl)⟩ (fun vr H hW _ _ => ?_)
            have hW : tW z D m (upd g 0 (zb (!(m_in (nI k) 1 48)))) (m_hour (m_hours B n t i) n (t + i)) (sRow Bs 11 B) L I C H := hW
            refine y_st (st' := []) rfl ?_
            refine y_iinc (v := nI (i + 1)) (lv' := [(2, .int (nI (i + 1))), (0, .ref (m 0)), (1, .int (nI k))]) hE dX4_incomeWithin_34 hl (k := 0) rfl (nI_1 i) (by decide) rfl (fun ls hl => ?_)
            refine y_goto (tgt := 25) hE dX4_incomeWithin_37 (by decide) ?_
            exact ih25 _ _ (lv_sub hl [0, 1, 2] rfl) (hW.cast rfl rfl rfl rfl rfl rfl)
      exact K25 0 (Nat.zero_le _) _ _ (lv_sub hl [0, 1, 2] rfl) (hW.cast rfl rfl rfl rfl rfl rfl)
    · -- f 11
      rw [zb_0] at c11
      exact absurd c11 (by simp [hx])

set_option maxHeartbeats 1000000 in
theorem kX4_meanOutput {z : State} {D : yD} {m : Nat → Nat} {g B : Nat → Int32} {Bs : Nat → Nat → Int32} {L I C : Nat → Int32} (n : Nat) (hn : B 0 = nI n) (hN : n ≤ 12) (hF : 0 < B 0 → vf_n64 (FP.ddiv (FP.i2d (m_total B n)) (FP.i2d (B 0)))) : yM yX4_meanOutput (ws_ yX4_meanOutput cX4_meanOutput 1 (some .double)) (rmD 8 0 0) z D [.ref (m 0)] (tW z D m g B Bs L I C) eD (fun vr H => vr = q_mean B n ∧ tW z D m (upd g 0 (zb (!decide (0 < B 0)))) B Bs L I C H) 0 0 (tA m) := by
  refine yM_of (own := RX4) (by decide +kernel) rfl (Nat.le_of_ble_eq_true rfl) (fun H h => h.az) fun E hE hW ls hl hin => ?_
  obtain ⟨Q, hQ⟩ : ∃ Q, Q = yEm E eD (fun vr H => vr = q_mean B n ∧ tW z D m (upd g 0 (zb (!decide (0 < B 0)))) B Bs L I C H) 0 0 (tA m) := ⟨_, rfl⟩
  rw [← hQ]
  generalize (e_s E).heap = H at hW ⊢
  have hl : lv_has ls 1 [(0, .ref (m 0))] := hl
  refine y_aload_n hE dX4_meanOutput_0 rfl (lv_at hl 0 rfl) ?_
  refine y_aload_n hE dX4_meanOutput_1 rfl (lv_at hl 0 rfl) ?_
  refine t_get (v := .ref (m 1)) hE 1 (by decide) q1977 rfl hW rfl dX4_meanOutput_2 ?_
  refine y_iconst (v := 0) hE dX4_meanOutput_5 (by decide) ?_
  refine t_aldB (j := 0) (v := B 0) hE hW (rfl) (by decide) rfl dX4_meanOutput_6 ?_
  refine y_if_le (tgt := 14) hE dX4_meanOutput_7 (by decide) (fun c7 => ?_) (fun c7 => ?_)
  · -- t 7
    have n7 := Int32.not_lt.mpr c7
    refine y_iconst (v := 0) hE dX4_meanOutput_14 (by decide) ?_
    -- call isFine ['false']
    refine y_muV (rest := []) hE cl_X4_49 (kX4_isFine false) dX4_meanOutput_15 hl (Nat.le_of_ble_eq_true rfl) (y_recv hE rfl hW.1) rfl rfl (Nat.le_of_ble_eq_true rfl) hW (fun _ h => h) ⟨(Nat.le_of_ble_eq_true rfl), (Nat.le_of_ble_eq_true rfl)⟩ (fun vr H hW _ _ => ?_)
    obtain ⟨hr, hW⟩ := hW
    subst hr
    have hW : tW z D m (upd g 0 1) B Bs L I C H := hW
    refine y_st (st' := [.int (zb false)]) rfl ?_
    refine y_if_eq (tgt := 37) hE dX4_meanOutput_18 (by decide) (fun c18 => ?_) (fun c18 => ?_)
    · -- t 18
      rw [zb_0] at c18
      refine y_dconst0 hE dX4_meanOutput_37 ?_
      rw [hQ]
      exact y_dret hE dX4_meanOutput_38 ⟨(by simp [q_mean, zb, n7]), hW.cast (by simp [q_mean, zb, n7]) rfl rfl rfl rfl rfl⟩ (Nat.le_of_ble_eq_true rfl) (Nat.le_of_ble_eq_true rfl)
    · -- f 18
      rw [zb_1] at c18
      exact absurd c18 (by decide)
  · -- f 7
    have n7 := Int32.not_le.mp c7
    refine y_iconst (v := 1) hE dX4_meanOutput_10 (by decide) ?_
    refine y_goto (tgt := 15) hE dX4_meanOutput_11 (by decide) ?_
    -- call isFine ['true']
    refine y_muV (rest := []) hE cl_X4_49 (kX4_isFine true) dX4_meanOutput_15 hl (Nat.le_of_ble_eq_true rfl) (y_recv hE rfl hW.1) rfl rfl (Nat.le_of_ble_eq_true rfl) hW (fun _ h => h) ⟨(Nat.le_of_ble_eq_true rfl), (Nat.le_of_ble_eq_true rfl)⟩ (fun vr H hW _ _ => ?_)
    obtain ⟨hr, hW⟩ := hW
    subst hr
    have hW : tW z D m (upd g 0 0) B Bs L I C H := hW
    refine y_st (st' := [.int (zb true)]) rfl ?_
    refine y_if_eq (tgt := 37) hE dX4_meanOutput_18 (by decide) (fun c18 => ?_) (fun c18 => ?_)
    · -- t 18
      rw [zb_0] at c18
      exact absurd c18 (by decide)
    · -- f 18
      rw [zb_1] at c18
      refine y_aload_n hE dX4_meanOutput_21 rfl (lv_at hl 0 rfl) ?_
      -- call total []
      refine y_roV (rest := []) hE cl_X4_129 (kX4_total n (by repeat (first | exact hn | rw [upd_ne (by omega)] | rw [m_cuts_lo _ _ (by omega)] | rw [m_ticks_lo _ (by omega)] | rw [m_rels_lo _ (by omega)] | rw [m_hours_lo _ _ _ (by omega)] | rw [m_pay_lo _ _ _ (by omega)] | rw [tGo_2])) hN) dX4_meanOutput_22 hl (Nat.le_of_ble_eq_true rfl) (y_recv hE rfl hW.1) rfl rfl (Nat.le_of_ble_eq_true rfl) hW ⟨(Nat.le_of_ble_eq_true rfl), (Nat.le_of_ble_eq_true rfl)⟩ ?_
      refine y_i2d hE dX4_meanOutput_25 ?_
      refine y_aload_n hE dX4_meanOutput_26 rfl (lv_at hl 0 rfl) ?_
      refine t_get (v := .ref (m 1)) hE 1 (by decide) q1977 rfl hW rfl dX4_meanOutput_27 ?_
      refine y_iconst (v := 0) hE dX4_meanOutput_30 (by decide) ?_
      refine t_aldB (j := 0) (v := B 0) hE hW (rfl) (by decide) rfl dX4_meanOutput_31 ?_
      refine y_i2d hE dX4_meanOutput_32 ?_
      refine y_ddiv hE dX4_meanOutput_33 (hF n7) ?_
      refine y_goto (tgt := 38) hE dX4_meanOutput_34 (by decide) ?_
      rw [hQ]
      exact y_dret hE dX4_meanOutput_38 ⟨(by simp [q_mean, zb, n7]), hW.cast (by simp [q_mean, zb, n7]) rfl rfl rfl rfl rfl⟩ (Nat.le_of_ble_eq_true rfl) (Nat.le_of_ble_eq_true rfl)

set_option maxHeartbeats 1000000 in
theorem kX4_runningShare {z : State} {D : yD} {m : Nat → Nat} {g B : Nat → Int32} {Bs : Nat → Nat → Int32} {L I C : Nat → Int32} (n : Nat) (hn : B 0 = nI n) (hN : n ≤ 12) (hF : 0 < B 0 → vf_n32 (FP.fdiv (FP.i2f (m_inSt B n 0)) (FP.i2f (B 0)))) : yM yX4_runningShare (ws_ yX4_runningShare cX4_runningShare 1 (some .float)) (rmD 3 0 0) z D [.ref (m 0)] (tW z D m g B Bs L I C) eF (fun vr H => vr = q_share B n ∧ tW z D m (upd g 0 (zb (!decide (0 < B 0)))) B Bs L I C H) 0 0 (tA m) := by
  refine yM_of (own := RX4) (by decide +kernel) rfl (Nat.le_of_ble_eq_true rfl) (fun H h => h.az) fun E hE hW ls hl hin => ?_
  obtain ⟨Q, hQ⟩ : ∃ Q, Q = yEm E eF (fun vr H => vr = q_share B n ∧ tW z D m (upd g 0 (zb (!decide (0 < B 0)))) B Bs L I C H) 0 0 (tA m) := ⟨_, rfl⟩
  rw [← hQ]
  generalize (e_s E).heap = H at hW ⊢
  have hl : lv_has ls 1 [(0, .ref (m 0))] := hl
  refine y_aload_n hE dX4_runningShare_0 rfl (lv_at hl 0 rfl) ?_
  refine y_aload_n hE dX4_runningShare_1 rfl (lv_at hl 0 rfl) ?_
  refine t_get (v := .ref (m 1)) hE 1 (by decide) q1977 rfl hW rfl dX4_runningShare_2 ?_
  refine y_iconst (v := 0) hE dX4_runningShare_5 (by decide) ?_
  refine t_aldB (j := 0) (v := B 0) hE hW (rfl) (by decide) rfl dX4_runningShare_6 ?_
  refine y_if_le (tgt := 14) hE dX4_runningShare_7 (by decide) (fun c7 => ?_) (fun c7 => ?_)
  · -- t 7
    have n7 := Int32.not_lt.mpr c7
    refine y_iconst (v := 0) hE dX4_runningShare_14 (by decide) ?_
    -- call isFine ['false']
    refine y_muV (rest := []) hE cl_X4_49 (kX4_isFine false) dX4_runningShare_15 hl (Nat.le_of_ble_eq_true rfl) (y_recv hE rfl hW.1) rfl rfl (Nat.le_of_ble_eq_true rfl) hW (fun _ h => h) ⟨(Nat.le_of_ble_eq_true rfl), (Nat.le_of_ble_eq_true rfl)⟩ (fun vr H hW _ _ => ?_)
    obtain ⟨hr, hW⟩ := hW
    subst hr
    have hW : tW z D m (upd g 0 1) B Bs L I C H := hW
    refine y_st (st' := [.int (zb false)]) rfl ?_
    refine y_if_eq (tgt := 38) hE dX4_runningShare_18 (by decide) (fun c18 => ?_) (fun c18 => ?_)
    · -- t 18
      rw [zb_0] at c18
      refine y_fconst0 hE dX4_runningShare_38 ?_
      rw [hQ]
      exact y_fret hE dX4_runningShare_39 ⟨(by simp [q_share, zb, n7]), hW.cast (by simp [q_share, zb, n7]) rfl rfl rfl rfl rfl⟩ (Nat.le_of_ble_eq_true rfl) (Nat.le_of_ble_eq_true rfl)
    · -- f 18
      rw [zb_1] at c18
      exact absurd c18 (by decide)
  · -- f 7
    have n7 := Int32.not_le.mp c7
    refine y_iconst (v := 1) hE dX4_runningShare_10 (by decide) ?_
    refine y_goto (tgt := 15) hE dX4_runningShare_11 (by decide) ?_
    -- call isFine ['true']
    refine y_muV (rest := []) hE cl_X4_49 (kX4_isFine true) dX4_runningShare_15 hl (Nat.le_of_ble_eq_true rfl) (y_recv hE rfl hW.1) rfl rfl (Nat.le_of_ble_eq_true rfl) hW (fun _ h => h) ⟨(Nat.le_of_ble_eq_true rfl), (Nat.le_of_ble_eq_true rfl)⟩ (fun vr H hW _ _ => ?_)
    obtain ⟨hr, hW⟩ := hW
    subst hr
    have hW : tW z D m (upd g 0 0) B Bs L I C H := hW
    refine y_st (st' := [.int (zb true)]) rfl ?_
    refine y_if_eq (tgt := 38) hE dX4_runningShare_18 (by decide) (fun c18 => ?_) (fun c18 => ?_)
    · -- t 18
      rw [zb_0] at c18
      exact absurd c18 (by decide)
    · -- f 18
      rw [zb_1] at c18
      refine y_aload_n hE dX4_runningShare_21 rfl (lv_at hl 0 rfl) ?_
      refine y_iconst (v := 0) hE dX4_runningShare_22 (by decide) ?_
      -- call inState ['0']
      refine y_roV (rest := []) hE cl_X4_107 (kX4_inState n 0 (by repeat (first | exact hn | rw [upd_ne (by omega)] | rw [m_cuts_lo _ _ (by omega)] | rw [m_ticks_lo _ (by omega)] | rw [m_rels_lo _ (by omega)] | rw [m_hours_lo _ _ _ (by omega)] | rw [m_pay_lo _ _ _ (by omega)] | rw [tGo_2])) hN) dX4_runningShare_23 hl (Nat.le_of_ble_eq_true rfl) (y_recv hE rfl hW.1) rfl rfl (Nat.le_of_ble_eq_true rfl) hW ⟨(Nat.le_of_ble_eq_true rfl), (Nat.le_of_ble_eq_true rfl)⟩ ?_
      refine y_i2f hE dX4_runningShare_26 ?_
      refine y_aload_n hE dX4_runningShare_27 rfl (lv_at hl 0 rfl) ?_
      refine t_get (v := .ref (m 1)) hE 1 (by decide) q1977 rfl hW rfl dX4_runningShare_28 ?_
      refine y_iconst (v := 0) hE dX4_runningShare_31 (by decide) ?_
      refine t_aldB (j := 0) (v := B 0) hE hW (rfl) (by decide) rfl dX4_runningShare_32 ?_
      refine y_i2f hE dX4_runningShare_33 ?_
      refine y_fdiv hE dX4_runningShare_34 (hF n7) ?_
      refine y_goto (tgt := 39) hE dX4_runningShare_35 (by decide) ?_
      rw [hQ]
      exact y_fret hE dX4_runningShare_39 ⟨(by simp [q_share, zb, n7]), hW.cast (by simp [q_share, zb, n7]) rfl rfl rfl rfl rfl⟩ (Nat.le_of_ble_eq_true rfl) (Nat.le_of_ble_eq_true rfl)

set_option maxHeartbeats 1000000 in
theorem kX4_rejectionReason {z : State} {D : yD} {m : Nat → Nat} {g B : Nat → Int32} {Bs : Nat → Nat → Int32} {L I C : Nat → Int32}  : yM yX4_rejectionReason (ws_ yX4_rejectionReason cX4_rejectionReason 1 (some .int)) (rmD 2 0 0) z D [.ref (m 0)] (tW z D m g B Bs L I C) eI (fun vr H => vr = (if g 5 = 0 then 0 else g 5) ∧ tW z D m (upd g 0 (if g 5 = 0 then 1 else 0)) B Bs L I C H) 0 0 (tA m) := by
  refine yM_of (own := RX4) (by decide +kernel) rfl (Nat.le_of_ble_eq_true rfl) (fun H h => h.az) fun E hE hW ls hl hin => ?_
  obtain ⟨Q, hQ⟩ : ∃ Q, Q = yEm E eI (fun vr H => vr = (if g 5 = 0 then 0 else g 5) ∧ tW z D m (upd g 0 (if g 5 = 0 then 1 else 0)) B Bs L I C H) 0 0 (tA m) := ⟨_, rfl⟩
  rw [← hQ]
  generalize (e_s E).heap = H at hW ⊢
  have hl : lv_has ls 1 [(0, .ref (m 0))] := hl
  refine y_aload_n hE dX4_rejectionReason_0 rfl (lv_at hl 0 rfl) ?_
  refine y_aload_n hE dX4_rejectionReason_1 rfl (lv_at hl 0 rfl) ?_
  refine t_get (v := .int (g 5)) hE 5 (by decide) q1981 rfl hW rfl dX4_rejectionReason_2 ?_
  refine y_if_eq (tgt := 12) hE dX4_rejectionReason_5 (by decide) (fun c5 => ?_) (fun c5 => ?_)
  · -- t 5
    refine y_iconst (v := 0) hE dX4_rejectionReason_12 (by decide) ?_
    -- call isFine ['false']
    refine y_muV (rest := []) hE cl_X4_49 (kX4_isFine false) dX4_rejectionReason_13 hl (Nat.le_of_ble_eq_true rfl) (y_recv hE rfl hW.1) rfl rfl (Nat.le_of_ble_eq_true rfl) hW (fun _ h => h) ⟨(Nat.le_of_ble_eq_true rfl), (Nat.le_of_ble_eq_true rfl)⟩ (fun vr H hW _ _ => ?_)
    obtain ⟨hr, hW⟩ := hW
    subst hr
    have hW : tW z D m (upd g 0 1) B Bs L I C H := hW
    refine y_st (st' := [.int (zb false)]) rfl ?_
    refine y_if_eq (tgt := 26) hE dX4_rejectionReason_16 (by decide) (fun c16 => ?_) (fun c16 => ?_)
    · -- t 16
      rw [zb_0] at c16
      refine y_iconst (v := 0) hE dX4_rejectionReason_26 (by decide) ?_
      rw [hQ]
      exact y_iret hE dX4_rejectionReason_27 ⟨(by simp [zb, c5, c16]), hW.cast (by simp [zb, c5, c16]) rfl rfl rfl rfl rfl⟩ (Nat.le_of_ble_eq_true rfl) (Nat.le_of_ble_eq_true rfl)
    · -- f 16
      rw [zb_1] at c16
      exact absurd c16 (by decide)
  · -- f 5
    refine y_iconst (v := 1) hE dX4_rejectionReason_8 (by decide) ?_
    refine y_goto (tgt := 13) hE dX4_rejectionReason_9 (by decide) ?_
    -- call isFine ['true']
    refine y_muV (rest := []) hE cl_X4_49 (kX4_isFine true) dX4_rejectionReason_13 hl (Nat.le_of_ble_eq_true rfl) (y_recv hE rfl hW.1) rfl rfl (Nat.le_of_ble_eq_true rfl) hW (fun _ h => h) ⟨(Nat.le_of_ble_eq_true rfl), (Nat.le_of_ble_eq_true rfl)⟩ (fun vr H hW _ _ => ?_)
    obtain ⟨hr, hW⟩ := hW
    subst hr
    have hW : tW z D m (upd g 0 0) B Bs L I C H := hW
    refine y_st (st' := [.int (zb true)]) rfl ?_
    refine y_if_eq (tgt := 26) hE dX4_rejectionReason_16 (by decide) (fun c16 => ?_) (fun c16 => ?_)
    · -- t 16
      rw [zb_0] at c16
      exact absurd c16 (by decide)
    · -- f 16
      rw [zb_1] at c16
      refine y_aload_n hE dX4_rejectionReason_19 rfl (lv_at hl 0 rfl) ?_
      refine t_get (v := .int (g 5)) hE 5 (by decide) q1981 rfl hW rfl dX4_rejectionReason_20 ?_
      refine y_goto (tgt := 27) hE dX4_rejectionReason_23 (by decide) ?_
      rw [hQ]
      exact y_iret hE dX4_rejectionReason_27 ⟨(by simp [zb, c5, c16]), hW.cast (by simp [zb, c5, c16]) rfl rfl rfl rfl rfl⟩ (Nat.le_of_ble_eq_true rfl) (Nat.le_of_ble_eq_true rfl)

set_option maxHeartbeats 1000000 in
theorem kX4_rejectionDetail {z : State} {D : yD} {m : Nat → Nat} {g B : Nat → Int32} {Bs : Nat → Nat → Int32} {L I C : Nat → Int32}  : yM yX4_rejectionDetail (ws_ yX4_rejectionDetail cX4_rejectionDetail 1 (some .int)) (rmD 2 0 0) z D [.ref (m 0)] (tW z D m g B Bs L I C) eI (fun vr H => vr = (if g 5 = 0 then 0 else g 6) ∧ tW z D m (upd g 0 (if g 5 = 0 then 1 else 0)) B Bs L I C H) 0 0 (tA m) := by
  refine yM_of (own := RX4) (by decide +kernel) rfl (Nat.le_of_ble_eq_true rfl) (fun H h => h.az) fun E hE hW ls hl hin => ?_
  obtain ⟨Q, hQ⟩ : ∃ Q, Q = yEm E eI (fun vr H => vr = (if g 5 = 0 then 0 else g 6) ∧ tW z D m (upd g 0 (if g 5 = 0 then 1 else 0)) B Bs L I C H) 0 0 (tA m) := ⟨_, rfl⟩
  rw [← hQ]
  generalize (e_s E).heap = H at hW ⊢
  have hl : lv_has ls 1 [(0, .ref (m 0))] := hl
  refine y_aload_n hE dX4_rejectionDetail_0 rfl (lv_at hl 0 rfl) ?_
  refine y_aload_n hE dX4_rejectionDetail_1 rfl (lv_at hl 0 rfl) ?_
  refine t_get (v := .int (g 5)) hE 5 (by decide) q1981 rfl hW rfl dX4_rejectionDetail_2 ?_
  refine y_if_eq (tgt := 12) hE dX4_rejectionDetail_5 (by decide) (fun c5 => ?_) (fun c5 => ?_)
  · -- t 5
    refine y_iconst (v := 0) hE dX4_rejectionDetail_12 (by decide) ?_
    -- call isFine ['false']
    refine y_muV (rest := []) hE cl_X4_49 (kX4_isFine false) dX4_rejectionDetail_13 hl (Nat.le_of_ble_eq_true rfl) (y_recv hE rfl hW.1) rfl rfl (Nat.le_of_ble_eq_true rfl) hW (fun _ h => h) ⟨(Nat.le_of_ble_eq_true rfl), (Nat.le_of_ble_eq_true rfl)⟩ (fun vr H hW _ _ => ?_)
    obtain ⟨hr, hW⟩ := hW
    subst hr
    have hW : tW z D m (upd g 0 1) B Bs L I C H := hW
    refine y_st (st' := [.int (zb false)]) rfl ?_
    refine y_if_eq (tgt := 26) hE dX4_rejectionDetail_16 (by decide) (fun c16 => ?_) (fun c16 => ?_)
    · -- t 16
      rw [zb_0] at c16
      refine y_iconst (v := 0) hE dX4_rejectionDetail_26 (by decide) ?_
      rw [hQ]
      exact y_iret hE dX4_rejectionDetail_27 ⟨(by simp [zb, c5, c16]), hW.cast (by simp [zb, c5, c16]) rfl rfl rfl rfl rfl⟩ (Nat.le_of_ble_eq_true rfl) (Nat.le_of_ble_eq_true rfl)
    · -- f 16
      rw [zb_1] at c16
      exact absurd c16 (by decide)
  · -- f 5
    refine y_iconst (v := 1) hE dX4_rejectionDetail_8 (by decide) ?_
    refine y_goto (tgt := 13) hE dX4_rejectionDetail_9 (by decide) ?_
    -- call isFine ['true']
    refine y_muV (rest := []) hE cl_X4_49 (kX4_isFine true) dX4_rejectionDetail_13 hl (Nat.le_of_ble_eq_true rfl) (y_recv hE rfl hW.1) rfl rfl (Nat.le_of_ble_eq_true rfl) hW (fun _ h => h) ⟨(Nat.le_of_ble_eq_true rfl), (Nat.le_of_ble_eq_true rfl)⟩ (fun vr H hW _ _ => ?_)
    obtain ⟨hr, hW⟩ := hW
    subst hr
    have hW : tW z D m (upd g 0 0) B Bs L I C H := hW
    refine y_st (st' := [.int (zb true)]) rfl ?_
    refine y_if_eq (tgt := 26) hE dX4_rejectionDetail_16 (by decide) (fun c16 => ?_) (fun c16 => ?_)
    · -- t 16
      rw [zb_0] at c16
      exact absurd c16 (by decide)
    · -- f 16
      rw [zb_1] at c16
      refine y_aload_n hE dX4_rejectionDetail_19 rfl (lv_at hl 0 rfl) ?_
      refine t_get (v := .int (g 6)) hE 6 (by decide) q1982 rfl hW rfl dX4_rejectionDetail_20 ?_
      refine y_goto (tgt := 27) hE dX4_rejectionDetail_23 (by decide) ?_
      rw [hQ]
      exact y_iret hE dX4_rejectionDetail_27 ⟨(by simp [zb, c5, c16]), hW.cast (by simp [zb, c5, c16]) rfl rfl rfl rfl rfl⟩ (Nat.le_of_ble_eq_true rfl) (Nat.le_of_ble_eq_true rfl)

set_option maxHeartbeats 1000000 in
theorem kX4_causeReason {z : State} {D : yD} {m : Nat → Nat} {g B : Nat → Int32} {Bs : Nat → Nat → Int32} {L I C : Nat → Int32}  : yM yX4_causeReason (ws_ yX4_causeReason cX4_causeReason 1 (some .int)) (rmD 2 0 0) z D [.ref (m 0)] (tW z D m g B Bs L I C) eI (fun vr H => vr = (if g 7 = 0 then 0 else g 7) ∧ tW z D m (upd g 0 (if g 7 = 0 then 1 else 0)) B Bs L I C H) 0 0 (tA m) := by
  refine yM_of (own := RX4) (by decide +kernel) rfl (Nat.le_of_ble_eq_true rfl) (fun H h => h.az) fun E hE hW ls hl hin => ?_
  obtain ⟨Q, hQ⟩ : ∃ Q, Q = yEm E eI (fun vr H => vr = (if g 7 = 0 then 0 else g 7) ∧ tW z D m (upd g 0 (if g 7 = 0 then 1 else 0)) B Bs L I C H) 0 0 (tA m) := ⟨_, rfl⟩
  rw [← hQ]
  generalize (e_s E).heap = H at hW ⊢
  have hl : lv_has ls 1 [(0, .ref (m 0))] := hl
  refine y_aload_n hE dX4_causeReason_0 rfl (lv_at hl 0 rfl) ?_
  refine y_aload_n hE dX4_causeReason_1 rfl (lv_at hl 0 rfl) ?_
  refine t_get (v := .int (g 7)) hE 7 (by decide) q1983 rfl hW rfl dX4_causeReason_2 ?_
  refine y_if_eq (tgt := 12) hE dX4_causeReason_5 (by decide) (fun c5 => ?_) (fun c5 => ?_)
  · -- t 5
    refine y_iconst (v := 0) hE dX4_causeReason_12 (by decide) ?_
    -- call isFine ['false']
    refine y_muV (rest := []) hE cl_X4_49 (kX4_isFine false) dX4_causeReason_13 hl (Nat.le_of_ble_eq_true rfl) (y_recv hE rfl hW.1) rfl rfl (Nat.le_of_ble_eq_true rfl) hW (fun _ h => h) ⟨(Nat.le_of_ble_eq_true rfl), (Nat.le_of_ble_eq_true rfl)⟩ (fun vr H hW _ _ => ?_)
    obtain ⟨hr, hW⟩ := hW
    subst hr
    have hW : tW z D m (upd g 0 1) B Bs L I C H := hW
    refine y_st (st' := [.int (zb false)]) rfl ?_
    refine y_if_eq (tgt := 26) hE dX4_causeReason_16 (by decide) (fun c16 => ?_) (fun c16 => ?_)
    · -- t 16
      rw [zb_0] at c16
      refine y_iconst (v := 0) hE dX4_causeReason_26 (by decide) ?_
      rw [hQ]
      exact y_iret hE dX4_causeReason_27 ⟨(by simp [zb, c5, c16]), hW.cast (by simp [zb, c5, c16]) rfl rfl rfl rfl rfl⟩ (Nat.le_of_ble_eq_true rfl) (Nat.le_of_ble_eq_true rfl)
    · -- f 16
      rw [zb_1] at c16
      exact absurd c16 (by decide)
  · -- f 5
    refine y_iconst (v := 1) hE dX4_causeReason_8 (by decide) ?_
    refine y_goto (tgt := 13) hE dX4_causeReason_9 (by decide) ?_
    -- call isFine ['true']
    refine y_muV (rest := []) hE cl_X4_49 (kX4_isFine true) dX4_causeReason_13 hl (Nat.le_of_ble_eq_true rfl) (y_recv hE rfl hW.1) rfl rfl (Nat.le_of_ble_eq_true rfl) hW (fun _ h => h) ⟨(Nat.le_of_ble_eq_true rfl), (Nat.le_of_ble_eq_true rfl)⟩ (fun vr H hW _ _ => ?_)
    obtain ⟨hr, hW⟩ := hW
    subst hr
    have hW : tW z D m (upd g 0 0) B Bs L I C H := hW
    refine y_st (st' := [.int (zb true)]) rfl ?_
    refine y_if_eq (tgt := 26) hE dX4_causeReason_16 (by decide) (fun c16 => ?_) (fun c16 => ?_)
    · -- t 16
      rw [zb_0] at c16
      exact absurd c16 (by decide)
    · -- f 16
      rw [zb_1] at c16
      refine y_aload_n hE dX4_causeReason_19 rfl (lv_at hl 0 rfl) ?_
      refine t_get (v := .int (g 7)) hE 7 (by decide) q1983 rfl hW rfl dX4_causeReason_20 ?_
      refine y_goto (tgt := 27) hE dX4_causeReason_23 (by decide) ?_
      rw [hQ]
      exact y_iret hE dX4_causeReason_27 ⟨(by simp [zb, c5, c16]), hW.cast (by simp [zb, c5, c16]) rfl rfl rfl rfl rfl⟩ (Nat.le_of_ble_eq_true rfl) (Nat.le_of_ble_eq_true rfl)

set_option maxHeartbeats 1000000 in
theorem kX4_syntaxErrorOffset {z : State} {D : yD} {m : Nat → Nat} {g B : Nat → Int32} {Bs : Nat → Nat → Int32} {L I C : Nat → Int32}  : yM yX4_syntaxErrorOffset (ws_ yX4_syntaxErrorOffset cX4_syntaxErrorOffset 1 (some .int)) (rmD 2 0 0) z D [.ref (m 0)] (tW z D m g B Bs L I C) eI (fun vr H => vr = (if g 14 = -1 then 0 else g 14) ∧ tW z D m (upd g 0 (if g 14 = -1 then 1 else 0)) B Bs L I C H) 0 0 (tA m) := by
  refine yM_of (own := RX4) (by decide +kernel) rfl (Nat.le_of_ble_eq_true rfl) (fun H h => h.az) fun E hE hW ls hl hin => ?_
  obtain ⟨Q, hQ⟩ : ∃ Q, Q = yEm E eI (fun vr H => vr = (if g 14 = -1 then 0 else g 14) ∧ tW z D m (upd g 0 (if g 14 = -1 then 1 else 0)) B Bs L I C H) 0 0 (tA m) := ⟨_, rfl⟩
  rw [← hQ]
  generalize (e_s E).heap = H at hW ⊢
  have hl : lv_has ls 1 [(0, .ref (m 0))] := hl
  refine y_aload_n hE dX4_syntaxErrorOffset_0 rfl (lv_at hl 0 rfl) ?_
  refine y_aload_n hE dX4_syntaxErrorOffset_1 rfl (lv_at hl 0 rfl) ?_
  refine t_get (v := .int (g 14)) hE 14 (by decide) q1990 rfl hW rfl dX4_syntaxErrorOffset_2 ?_
  refine y_iconst (v := (-1)) hE dX4_syntaxErrorOffset_5 (by decide) ?_
  refine y_icmp_eq (tgt := 13) hE dX4_syntaxErrorOffset_6 (by decide) (fun c6 => ?_) (fun c6 => ?_)
  · -- t 6
    refine y_iconst (v := 0) hE dX4_syntaxErrorOffset_13 (by decide) ?_
    -- call isFine ['false']
    refine y_muV (rest := []) hE cl_X4_49 (kX4_isFine false) dX4_syntaxErrorOffset_14 hl (Nat.le_of_ble_eq_true rfl) (y_recv hE rfl hW.1) rfl rfl (Nat.le_of_ble_eq_true rfl) hW (fun _ h => h) ⟨(Nat.le_of_ble_eq_true rfl), (Nat.le_of_ble_eq_true rfl)⟩ (fun vr H hW _ _ => ?_)
    obtain ⟨hr, hW⟩ := hW
    subst hr
    have hW : tW z D m (upd g 0 1) B Bs L I C H := hW
    refine y_st (st' := [.int (zb false)]) rfl ?_
    refine y_if_eq (tgt := 27) hE dX4_syntaxErrorOffset_17 (by decide) (fun c17 => ?_) (fun c17 => ?_)
    · -- t 17
      rw [zb_0] at c17
      refine y_iconst (v := 0) hE dX4_syntaxErrorOffset_27 (by decide) ?_
      rw [hQ]
      exact y_iret hE dX4_syntaxErrorOffset_28 ⟨(by simp [zb, c6, c17]), hW.cast (by simp [zb, c6, c17]) rfl rfl rfl rfl rfl⟩ (Nat.le_of_ble_eq_true rfl) (Nat.le_of_ble_eq_true rfl)
    · -- f 17
      rw [zb_1] at c17
      exact absurd c17 (by decide)
  · -- f 6
    refine y_iconst (v := 1) hE dX4_syntaxErrorOffset_9 (by decide) ?_
    refine y_goto (tgt := 14) hE dX4_syntaxErrorOffset_10 (by decide) ?_
    -- call isFine ['true']
    refine y_muV (rest := []) hE cl_X4_49 (kX4_isFine true) dX4_syntaxErrorOffset_14 hl (Nat.le_of_ble_eq_true rfl) (y_recv hE rfl hW.1) rfl rfl (Nat.le_of_ble_eq_true rfl) hW (fun _ h => h) ⟨(Nat.le_of_ble_eq_true rfl), (Nat.le_of_ble_eq_true rfl)⟩ (fun vr H hW _ _ => ?_)
    obtain ⟨hr, hW⟩ := hW
    subst hr
    have hW : tW z D m (upd g 0 0) B Bs L I C H := hW
    refine y_st (st' := [.int (zb true)]) rfl ?_
    refine y_if_eq (tgt := 27) hE dX4_syntaxErrorOffset_17 (by decide) (fun c17 => ?_) (fun c17 => ?_)
    · -- t 17
      rw [zb_0] at c17
      exact absurd c17 (by decide)
    · -- f 17
      rw [zb_1] at c17
      refine y_aload_n hE dX4_syntaxErrorOffset_20 rfl (lv_at hl 0 rfl) ?_
      refine t_get (v := .int (g 14)) hE 14 (by decide) q1990 rfl hW rfl dX4_syntaxErrorOffset_21 ?_
      refine y_goto (tgt := 28) hE dX4_syntaxErrorOffset_24 (by decide) ?_
      rw [hQ]
      exact y_iret hE dX4_syntaxErrorOffset_28 ⟨(by simp [zb, c6, c17]), hW.cast (by simp [zb, c6, c17]) rfl rfl rfl rfl rfl⟩ (Nat.le_of_ble_eq_true rfl) (Nat.le_of_ble_eq_true rfl)

set_option maxHeartbeats 1000000 in
theorem kX4_thrown {z : State} {D : yD} {m : Nat → Nat} {g B : Nat → Int32} {Bs : Nat → Nat → Int32} {L I C : Nat → Int32}  : yR yX4_thrown (ws_ yX4_thrown cX4_thrown 1 (some .int)) (rmD 1 0 0) z D [.ref (m 0)] (tW z D m g B Bs L I C) (some (.int (g 0))) := by
  refine yR_of (own := RX4) (by decide +kernel) rfl (Nat.le_of_ble_eq_true rfl) fun E hE hW ls hl => ?_
  obtain ⟨Q, hQ⟩ : ∃ Q, Q = yEr E (some (.int (g 0))) := ⟨_, rfl⟩
  rw [← hQ]
  have hl : lv_has ls 1 [(0, .ref (m 0))] := hl
  refine y_aload_n hE dX4_thrown_0 rfl (lv_at hl 0 rfl) ?_
  refine t_get (v := .int (g 0)) hE 0 (by decide) q1976 rfl hW rfl dX4_thrown_1 ?_
  rw [hQ]
  exact y_set1 (w := g 0) (by first | rfl | (simp [zb]; done) | (simp_all [zb]; done) | grind []) (y_iretR hE dX4_thrown_4)

set_option maxHeartbeats 1000000 in
theorem kX4_saveSnapshot {z : State} {D : yD} {m : Nat → Nat} {g B : Nat → Int32} {Bs : Nat → Nat → Int32} {L I C : Nat → Int32} (n : Nat) (hn : B 0 = nI n) : yM yX4_saveSnapshot (ws_ yX4_saveSnapshot cX4_saveSnapshot 1 (some .int)) (rmD 2 0 0) z D [.ref (m 0)] (tW z D m g B Bs L I C) eI (fun vr H => vr = nI n ∧ tW z D m (upd (upd g 0 0) 3 1) B (sRow Bs 9 B) L I C H) 0 0 (tA m) := by
  refine yM_of (own := RX4) (by decide +kernel) rfl (Nat.le_of_ble_eq_true rfl) (fun H h => h.az) fun E hE hW ls hl hin => ?_
  obtain ⟨Q, hQ⟩ : ∃ Q, Q = yEm E eI (fun vr H => vr = nI n ∧ tW z D m (upd (upd g 0 0) 3 1) B (sRow Bs 9 B) L I C H) 0 0 (tA m) := ⟨_, rfl⟩
  rw [← hQ]
  generalize (e_s E).heap = H at hW ⊢
  have hl : lv_has ls 1 [(0, .ref (m 0))] := hl
  refine y_aload_n hE dX4_saveSnapshot_0 rfl (lv_at hl 0 rfl) ?_
  refine y_iconst (v := 0) hE dX4_saveSnapshot_1 (by decide) ?_
  refine t_put (g' := upd g 0 0) hE hW 0 (by decide) q1976 rfl rfl rfl rfl rfl dX4_saveSnapshot_2 (fun H hW => ?_)
  refine y_aload_n hE dX4_saveSnapshot_5 rfl (lv_at hl 0 rfl) ?_
  refine y_iconst (v := 1) hE dX4_saveSnapshot_6 (by decide) ?_
  refine t_put (g' := upd (upd g 0 0) 3 1) hE hW 3 (by decide) q1979 rfl rfl rfl rfl rfl dX4_saveSnapshot_7 (fun H hW => ?_)
  refine y_aload_n hE dX4_saveSnapshot_10 rfl (lv_at hl 0 rfl) ?_
  refine y_iconst (v := 0) hE dX4_saveSnapshot_11 (by decide) ?_
  refine y_bipush (v := 9) hE dX4_saveSnapshot_12 (by decide) ?_
  -- call copies ['0', '9']
  refine y_muV (rest := []) hE cl_X4_30 (kX4_copies_0j 9 (by omega) (by omega)) dX4_saveSnapshot_14 hl (Nat.le_of_ble_eq_true rfl) (y_recv hE rfl hW.1) rfl rfl (Nat.le_of_ble_eq_true rfl) hW (fun _ h => h) ⟨(Nat.le_of_ble_eq_true rfl), (Nat.le_of_ble_eq_true rfl)⟩ (fun vr H hW _ _ => ?_)
  have hW : tW z D m (upd (upd g 0 0) 3 1) B (sRow Bs 9 B) L I C H := hW
  refine y_st (st' := []) rfl ?_
  refine y_aload_n hE dX4_saveSnapshot_17 rfl (lv_at hl 0 rfl) ?_
  refine t_get (v := .ref (m 1)) hE 1 (by decide) q1977 rfl hW rfl dX4_saveSnapshot_18 ?_
  refine y_iconst (v := 0) hE dX4_saveSnapshot_21 (by decide) ?_
  refine t_aldB (j := 0) (v := B 0) hE hW (rfl) (by decide) rfl dX4_saveSnapshot_22 ?_
  refine y_set1 (w := nI n) (hn) ?_
  rw [hQ]
  exact y_iret hE dX4_saveSnapshot_23 ⟨rfl, hW.cast rfl rfl rfl rfl rfl rfl⟩ (Nat.le_of_ble_eq_true rfl) (Nat.le_of_ble_eq_true rfl)


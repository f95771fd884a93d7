set_option maxRecDepth 100000
set_option maxHeartbeats 1000000 in
theorem kX4_undo {z : State} {D : yD} {m : Nat → Nat} {g B : Nat → Int32} {Bs : Nat → Nat → Int32} {L I C : Nat → Int32} (c : Nat) (hc : g 2 = nI c) (hC : c ≤ 8) : yM yX4_undo (ws_ yX4_undo cX4_undo 1 (some .int)) (rmD 2 0 0) z D [.ref (m 0)] (tW z D m g B Bs L I C) eI (fun vr H => vr = nI (c - 1) ∧ tW z D m (if c = 0 then upd g 0 1 else upd (upd g 0 0) 2 (nI (c - 1))) (if c = 0 then B else Bs c) Bs L I C H) 0 0 (tA m) := by
  refine yM_of (own := RX4) (by decide +kernel) rfl (Nat.le_of_ble_eq_true rfl) (fun H h => h.az) fun E hE hW ls hl hin => ?_
  obtain ⟨Q, hQ⟩ : ∃ Q, Q = yEm E eI (fun vr H => vr = nI (c - 1) ∧ tW z D m (if c = 0 then upd g 0 1 else upd (upd g 0 0) 2 (nI (c - 1))) (if c = 0 then B else Bs c) Bs L I C H) 0 0 (tA m) := ⟨_, rfl⟩
  rw [← hQ]
  generalize (e_s E).heap = H at hW ⊢
  have hl : lv_has ls 1 [(0, .ref (m 0))] := hl
  refine y_aload_n hE dX4_undo_0 rfl (lv_at hl 0 rfl) ?_
  refine y_aload_n hE dX4_undo_1 rfl (lv_at hl 0 rfl) ?_
  refine t_get (v := .int (g 2)) hE 2 (by decide) q1978 rfl hW rfl dX4_undo_2 ?_
  refine y_set1 (w := nI c) (hc) ?_
  refine y_if_le (tgt := 12) hE dX4_undo_5 (by decide) (fun c5 => ?_) (fun c5 => ?_)
  · -- t 5
    have n5 := Int32.not_lt.mpr c5
    refine y_iconst (v := 0) hE dX4_undo_12 (by decide) ?_
    -- call isFine ['false']
    refine y_muV (rest := []) hE cl_X4_49 (kX4_isFine false) dX4_undo_13 hl (Nat.le_of_ble_eq_true rfl) (y_recv hE rfl hW.1) rfl rfl (Nat.le_of_ble_eq_true rfl) hW (fun _ h => h) ⟨(Nat.le_of_ble_eq_true rfl), (Nat.le_of_ble_eq_true rfl)⟩ (fun vr H hW _ _ => ?_)
    obtain ⟨hr, hW⟩ := hW
    subst hr
    have hW : tW z D m (upd g 0 1) B Bs L I C H := hW
    refine y_st (st' := [.int (zb false)]) rfl ?_
    refine y_if_ne (tgt := 21) hE dX4_undo_16 (by decide) (fun c16 => ?_) (fun c16 => ?_)
    · -- t 16
      rw [zb_1] at c16
      exact absurd c16 (by decide)
    · -- f 16
      rw [zb_0] at c16
      have h0 : c = 0 := nIz c5 (by omega)
      refine y_iconst (v := 0) hE dX4_undo_19 (by decide) ?_
      rw [hQ]
      exact y_iret hE dX4_undo_20 ⟨(by simp [h0, nI_0]), (hW.cast (by simp [h0]) (by simp [h0]) rfl rfl rfl rfl)⟩ (Nat.le_of_ble_eq_true rfl) (Nat.le_of_ble_eq_true rfl)
  · -- f 5
    have n5 := Int32.not_le.mp c5
    refine y_iconst (v := 1) hE dX4_undo_8 (by decide) ?_
    refine y_goto (tgt := 13) hE dX4_undo_9 (by decide) ?_
    -- call isFine ['true']
    refine y_muV (rest := []) hE cl_X4_49 (kX4_isFine true) dX4_undo_13 hl (Nat.le_of_ble_eq_true rfl) (y_recv hE rfl hW.1) rfl rfl (Nat.le_of_ble_eq_true rfl) hW (fun _ h => h) ⟨(Nat.le_of_ble_eq_true rfl), (Nat.le_of_ble_eq_true rfl)⟩ (fun vr H hW _ _ => ?_)
    obtain ⟨hr, hW⟩ := hW
    subst hr
    have hW : tW z D m (upd g 0 0) B Bs L I C H := hW
    refine y_st (st' := [.int (zb true)]) rfl ?_
    refine y_if_ne (tgt := 21) hE dX4_undo_16 (by decide) (fun c16 => ?_) (fun c16 => ?_)
    · -- t 16
      rw [zb_1] at c16
      have h0 : ¬ c = 0 := by have := nIp n5; omega
      refine y_aload_n hE dX4_undo_21 rfl (lv_at hl 0 rfl) ?_
      refine y_aload_n hE dX4_undo_22 rfl (lv_at hl 0 rfl) ?_
      refine t_get (v := .int (g 2)) hE 2 (by decide) q1978 rfl hW rfl dX4_undo_23 ?_
      refine y_set1 (w := nI c) (hc) ?_
      refine y_iconst (v := 0) hE dX4_undo_26 (by decide) ?_
      -- call copies ['c', '0']
      refine y_muV (rest := []) hE cl_X4_30 (kX4_copies_j0 c (nIp n5) (by omega)) dX4_undo_27 hl (Nat.le_of_ble_eq_true rfl) (y_recv hE rfl hW.1) rfl rfl (Nat.le_of_ble_eq_true rfl) hW (fun _ h => h) ⟨(Nat.le_of_ble_eq_true rfl), (Nat.le_of_ble_eq_true rfl)⟩ (fun vr H hW _ _ => ?_)
      have hW : tW z D m (upd g 0 0) (Bs c) Bs L I C H := hW
      refine y_st (st' := []) rfl ?_
      refine y_aload_n hE dX4_undo_30 rfl (lv_at hl 0 rfl) ?_
      refine y_dup hE dX4_undo_31 rfl ?_
      refine t_get (v := .int (g 2)) hE 2 (by decide) q1978 rfl hW rfl dX4_undo_32 ?_
      refine y_iconst (v := 1) hE dX4_undo_35 (by decide) ?_
      refine y_isub hE dX4_undo_36 ?_
      refine y_set1 (w := nI (c - 1)) (by rw [hc]; exact nI_sub (b := 1) (by omega) (by omega)) ?_
      refine t_put (g' := upd (upd g 0 0) 2 (nI (c - 1))) hE hW 2 (by decide) q1978 rfl rfl rfl rfl rfl dX4_undo_37 (fun H hW => ?_)
      refine y_aload_n hE dX4_undo_40 rfl (lv_at hl 0 rfl) ?_
      refine t_get (v := .int (nI (c - 1))) hE 2 (by decide) q1978 rfl hW rfl dX4_undo_41 ?_
      rw [hQ]
      exact y_iret hE dX4_undo_44 ⟨(by simp [h0, nI_0]), (hW.cast (by simp [h0]) (by simp [h0]) rfl rfl rfl rfl)⟩ (Nat.le_of_ble_eq_true rfl) (Nat.le_of_ble_eq_true rfl)
    · -- f 16
      rw [zb_0] at c16
      exact absurd c16 (by decide)

set_option maxHeartbeats 1000000 in
theorem kX4_restoreSnapshot {z : State} {D : yD} {m : Nat → Nat} {g B : Nat → Int32} {Bs : Nat → Nat → Int32} {L I C : Nat → Int32} (sv : Bool) (hs : g 3 = zb sv) : yM yX4_restoreSnapshot (ws_ yX4_restoreSnapshot cX4_restoreSnapshot 1 (some .int)) (rmD 2 0 0) z D [.ref (m 0)] (tW z D m g B Bs L I C) eI (fun vr H => vr = (if sv then Bs 9 0 else 0) ∧ tW z D m (if sv then upd (upd g 0 0) 2 0 else upd g 0 1) (if sv then Bs 9 else B) Bs L I C H) 0 0 (tA m) := by
  refine yM_of (own := RX4) (by decide +kernel) rfl (Nat.le_of_ble_eq_true rfl) (fun H h => h.az) fun E hE hW ls hl hin => ?_
  obtain ⟨Q, hQ⟩ : ∃ Q, Q = yEm E eI (fun vr H => vr = (if sv then Bs 9 0 else 0) ∧ tW z D m (if sv then upd (upd g 0 0) 2 0 else upd g 0 1) (if sv then Bs 9 else B) Bs L I C H) 0 0 (tA m) := ⟨_, rfl⟩
  rw [← hQ]
  generalize (e_s E).heap = H at hW ⊢
  have hl : lv_has ls 1 [(0, .ref (m 0))] := hl
  refine y_aload_n hE dX4_restoreSnapshot_0 rfl (lv_at hl 0 rfl) ?_
  refine y_aload_n hE dX4_restoreSnapshot_1 rfl (lv_at hl 0 rfl) ?_
  refine t_get (v := .int (g 3)) hE 3 (by decide) q1979 rfl hW rfl dX4_restoreSnapshot_2 ?_
  refine y_set1 (w := zb sv) (hs) ?_
  -- call isFine ['sv']
  refine y_muV (rest := []) hE cl_X4_49 (kX4_isFine sv) dX4_restoreSnapshot_5 hl (Nat.le_of_ble_eq_true rfl) (y_recv hE rfl hW.1) rfl rfl (Nat.le_of_ble_eq_true rfl) hW (fun _ h => h) ⟨(Nat.le_of_ble_eq_true rfl), (Nat.le_of_ble_eq_true rfl)⟩ (fun vr H hW _ _ => ?_)
  obtain ⟨hr, hW⟩ := hW
  subst hr
  have hW : tW z D m (upd g 0 (zb (!sv))) B Bs L I C H := hW
  refine y_st (st' := [.int (zb sv)]) rfl ?_
  refine y_if_ne (tgt := 13) hE dX4_restoreSnapshot_8 (by decide) (fun c8 => ?_) (fun c8 => ?_)
  · -- t 8
    rw [zb_1] at c8
    refine y_aload_n hE dX4_restoreSnapshot_13 rfl (lv_at hl 0 rfl) ?_
    refine y_bipush (v := 9) hE dX4_restoreSnapshot_14 (by decide) ?_
    refine y_iconst (v := 0) hE dX4_restoreSnapshot_16 (by decide) ?_
    -- call copies ['9', '0']
    refine y_muV (rest := []) hE cl_X4_30 (kX4_copies_j0 9 (by omega) (by omega)) dX4_restoreSnapshot_17 hl (Nat.le_of_ble_eq_true rfl) (y_recv hE rfl hW.1) rfl rfl (Nat.le_of_ble_eq_true rfl) hW (fun _ h => h) ⟨(Nat.le_of_ble_eq_true rfl), (Nat.le_of_ble_eq_true rfl)⟩ (fun vr H hW _ _ => ?_)
    have hW : tW z D m (upd g 0 (zb (!sv))) (Bs 9) Bs L I C H := hW
    refine y_st (st' := []) rfl ?_
    refine y_aload_n hE dX4_restoreSnapshot_20 rfl (lv_at hl 0 rfl) ?_
    refine y_iconst (v := 0) hE dX4_restoreSnapshot_21 (by decide) ?_
    refine t_put (g' := upd (upd g 0 (zb (!sv))) 2 0) hE hW 2 (by decide) q1978 rfl rfl rfl rfl rfl dX4_restoreSnapshot_22 (fun H hW => ?_)
    refine y_aload_n hE dX4_restoreSnapshot_25 rfl (lv_at hl 0 rfl) ?_
    refine t_get (v := .ref (m 1)) hE 1 (by decide) q1977 rfl hW rfl dX4_restoreSnapshot_26 ?_
    refine y_iconst (v := 0) hE dX4_restoreSnapshot_29 (by decide) ?_
    refine t_aldB (j := 0) (v := (Bs 9) 0) hE hW (rfl) (by decide) rfl dX4_restoreSnapshot_30 ?_
    rw [hQ]
    exact y_iret hE dX4_restoreSnapshot_31 ⟨(by simp [c8]), (hW.cast (by simp [c8, zb]) (by simp [c8]) rfl rfl rfl rfl)⟩ (Nat.le_of_ble_eq_true rfl) (Nat.le_of_ble_eq_true rfl)
  · -- f 8
    rw [zb_0] at c8
    refine y_iconst (v := 0) hE dX4_restoreSnapshot_11 (by decide) ?_
    rw [hQ]
    exact y_iret hE dX4_restoreSnapshot_12 ⟨(by simp [c8]), (hW.cast (by simp [c8, zb]) (by simp [c8]) rfl rfl rfl rfl)⟩ (Nat.le_of_ble_eq_true rfl) (Nat.le_of_ble_eq_true rfl)

set_option maxHeartbeats 1000000 in
theorem kX4_writes {z : State} {D : yD} {m : Nat → Nat} {g B : Nat → Int32} {Bs : Nat → Nat → Int32} {L I C : Nat → Int32} (s : Nat) (v : Nat) (hs : s < 40) (hv : v < 65536) : yM yX4_writes (ws_ yX4_writes cX4_writes 2 none) (rmD 1 0 0) z D [.ref (m 0), .int (nI v)] (tW z D m (lG g s) B Bs L I C) eV (fun _ H => tW z D m (lG g (s + ([nI v]).length)) B Bs (tAp L s ([nI v])) I C H) 0 0 (tA m) := by
  refine yM_of (own := RX4) (by decide +kernel) rfl (Nat.le_of_ble_eq_true rfl) (fun H h => h.az) fun E hE hW ls hl hin => ?_
  obtain ⟨Q, hQ⟩ : ∃ Q, Q = yEm E eV (fun _ H => tW z D m (lG g (s + ([nI v]).length)) B Bs (tAp L s ([nI v])) I C H) 0 0 (tA m) := ⟨_, rfl⟩
  rw [← hQ]
  generalize (e_s E).heap = H at hW ⊢
  have hl : lv_has ls 2 [(0, .ref (m 0)), (1, .int (nI v))] := hl
  refine y_aload_n hE dX4_writes_0 rfl (lv_at hl 0 rfl) ?_
  refine t_get (v := .ref (m 2)) hE 8 (by decide) q1984 rfl hW rfl dX4_writes_1 ?_
  refine y_aload_n hE dX4_writes_4 rfl (lv_at hl 0 rfl) ?_
  refine t_get (v := .int (nI s)) hE 9 (by decide) q1985 rfl hW rfl dX4_writes_5 ?_
  refine y_iload_n hE dX4_writes_8 rfl (lv_at hl 1 rfl) ?_
  refine y_i2c (v := nI v) hE dX4_writes_9 (ch_i2c hv) ?_
  refine t_castL (j := s) (x' := nI v) hE hW (rfl) (by omega) (ch_nar hv) dX4_writes_10 (fun H hW => ?_)
  refine y_aload_n hE dX4_writes_11 rfl (lv_at hl 0 rfl) ?_
  refine y_dup hE dX4_writes_12 rfl ?_
  refine t_get (v := .int (nI s)) hE 9 (by decide) q1985 rfl hW rfl dX4_writes_13 ?_
  refine y_iconst (v := 1) hE dX4_writes_16 (by decide) ?_
  refine y_iadd hE dX4_writes_17 ?_
  refine y_set1 (w := nI (s + 1)) (nI_1 s) ?_
  refine t_put (g' := upd (lG g s) 9 (nI (s + 1))) hE hW 9 (by decide) q1985 rfl rfl rfl rfl rfl dX4_writes_18 (fun H hW => ?_)
  rw [hQ]
  exact y_vret hE dX4_writes_21 ((hW.cast (lG_u _ _ _) rfl rfl rfl rfl rfl)) (Nat.le_of_ble_eq_true rfl) (Nat.le_of_ble_eq_true rfl)

set_option maxHeartbeats 1000000 in
theorem kX4_outputAt {z : State} {D : yD} {m : Nat → Nat} {g B : Nat → Int32} {Bs : Nat → Nat → Int32} {L I C : Nat → Int32} (s : Nat) (x : Int32) (hs : g 9 = nI s) (hs2 : s ≤ 40) (hL : ∀ j : Nat, j < s → narrow .char (.int (L j)) = .int (L j)) : yM yX4_outputAt (ws_ yX4_outputAt cX4_outputAt 2 (some .char)) (rmD 2 0 0) z D [.ref (m 0), .int x] (tW z D m g B Bs L I C) eI (fun vr H => vr = (q_i (m_idx s x) (fun k => L k)).1 ∧ tW z D m (upd g 0 (q_i (m_idx s x) (fun k => L k)).2) B Bs L I C H) 0 0 (tA m) := by
  refine yM_of (own := RX4) (by decide +kernel) rfl (Nat.le_of_ble_eq_true rfl) (fun H h => h.az) fun E hE hW ls hl hin => ?_
  obtain ⟨Q, hQ⟩ : ∃ Q, Q = yEm E eI (fun vr H => vr = (q_i (m_idx s x) (fun k => L k)).1 ∧ tW z D m (upd g 0 (q_i (m_idx s x) (fun k => L k)).2) B Bs L I C H) 0 0 (tA m) := ⟨_, rfl⟩
  rw [← hQ]
  generalize (e_s E).heap = H at hW ⊢
  have hl : lv_has ls 2 [(0, .ref (m 0)), (1, .int x)] := hl
  rcases m_isT_or40 s x hs2 with ⟨hx, hxi⟩ | ⟨k, hk, rfl, hx, hxi⟩
  · -- no such place
    refine y_aload_n hE dX4_outputAt_0 rfl (lv_at hl 0 rfl) ?_
    refine y_iload_n hE dX4_outputAt_1 rfl (lv_at hl 1 rfl) ?_
    refine y_iconst (v := 0) hE dX4_outputAt_2 (by decide) ?_
    refine y_aload_n hE dX4_outputAt_3 rfl (lv_at hl 0 rfl) ?_
    refine t_get (v := .int (g 9)) hE 9 (by decide) q1985 rfl hW rfl dX4_outputAt_4 ?_
    refine y_set1 (w := nI s) (hs) ?_
    refine y_iconst (v := 1) hE dX4_outputAt_7 (by decide) ?_
    refine y_isub hE dX4_outputAt_8 ?_
    -- call in ['x', '0', '(nI s) - 1']
    refine y_roS (rest := [.ref (m 0)]) hE cl_X4_53 (kX4_in x 0 ((nI s) - 1)) dX4_outputAt_9 hl (Nat.le_of_ble_eq_true rfl) rfl rfl (Nat.le_of_ble_eq_true rfl) trivial ⟨(Nat.le_of_ble_eq_true rfl), (Nat.le_of_ble_eq_true rfl)⟩ ?_
    -- call isFine ['(m_in x 0 ((nI s) - 1))']
    refine y_muV (rest := []) hE cl_X4_49 (kX4_isFine (m_in x 0 ((nI s) - 1))) dX4_outputAt_12 hl (Nat.le_of_ble_eq_true rfl) (y_recv hE rfl hW.1) rfl rfl (Nat.le_of_ble_eq_true rfl) hW (fun _ h => h) ⟨(Nat.le_of_ble_eq_true rfl), (Nat.le_of_ble_eq_true rfl)⟩ (fun vr H hW _ _ => ?_)
    obtain ⟨hr, hW⟩ := hW
    subst hr
    have hW : tW z D m (upd g 0 (zb (!(m_in x 0 ((nI s) - 1))))) B Bs L I C H := hW
    refine y_st (st' := [.int (zb (m_in x 0 ((nI s) - 1)))]) rfl ?_
    refine y_if_eq (tgt := 27) hE dX4_outputAt_15 (by decide) (fun c15 => ?_) (fun c15 => ?_)
    · -- t 15
      rw [zb_0] at c15
      refine y_iconst (v := 0) hE dX4_outputAt_27 (by decide) ?_
      rw [hQ]
      exact y_set1 (by simp [q_i, hxi, zb, hx]) (y_zret hE (by simp only [q_i, hxi]; rfl) dX4_outputAt_28 ⟨rfl, (hW.cast (by have h2 := hx; unfold m_isT at h2; simp [q_i, hxi, h2, zb]) rfl rfl rfl rfl rfl)⟩ (Nat.le_of_ble_eq_true rfl) (Nat.le_of_ble_eq_true rfl))
    · -- f 15
      rw [zb_1] at c15
      exact absurd c15 (by have h2 := hx; unfold m_isT at h2; simp [h2])
  · -- a place
    have hl : lv_has ls 2 [(0, .ref (m 0)), (1, .int (nI k))] := hl
    refine y_aload_n hE dX4_outputAt_0 rfl (lv_at hl 0 rfl) ?_
    refine y_iload_n hE dX4_outputAt_1 rfl (lv_at hl 1 rfl) ?_
    refine y_iconst (v := 0) hE dX4_outputAt_2 (by decide) ?_
    refine y_aload_n hE dX4_outputAt_3 rfl (lv_at hl 0 rfl) ?_
    refine t_get (v := .int (g 9)) hE 9 (by decide) q1985 rfl hW rfl dX4_outputAt_4 ?_
    refine y_set1 (w := nI s) (hs) ?_
    refine y_iconst (v := 1) hE dX4_outputAt_7 (by decide) ?_
    refine y_isub hE dX4_outputAt_8 ?_
    -- call in ['nI k', '0', '(nI s) - 1']
    refine y_roS (rest := [.ref (m 0)]) hE cl_X4_53 (kX4_in (nI k) 0 ((nI s) - 1)) dX4_outputAt_9 hl (Nat.le_of_ble_eq_true rfl) rfl rfl (Nat.le_of_ble_eq_true rfl) trivial ⟨(Nat.le_of_ble_eq_true rfl), (Nat.le_of_ble_eq_true rfl)⟩ ?_
    -- call isFine ['(m_in (nI k) 0 ((nI s) - 1))']
    refine y_muV (rest := []) hE cl_X4_49 (kX4_isFine (m_in (nI k) 0 ((nI s) - 1))) dX4_outputAt_12 hl (Nat.le_of_ble_eq_true rfl) (y_recv hE rfl hW.1) rfl rfl (Nat.le_of_ble_eq_true rfl) hW (fun _ h => h) ⟨(Nat.le_of_ble_eq_true rfl), (Nat.le_of_ble_eq_true rfl)⟩ (fun vr H hW _ _ => ?_)
    obtain ⟨hr, hW⟩ := hW
    subst hr
    have hW : tW z D m (upd g 0 (zb (!(m_in (nI k) 0 ((nI s) - 1))))) B Bs L I C H := hW
    refine y_st (st' := [.int (zb (m_in (nI k) 0 ((nI s) - 1)))]) rfl ?_
    refine y_if_eq (tgt := 27) hE dX4_outputAt_15 (by decide) (fun c15 => ?_) (fun c15 => ?_)
    · -- t 15
      rw [zb_0] at c15
      exact absurd c15 (by have h2 := hx; unfold m_isT at h2; simp [h2])
    · -- f 15
      rw [zb_1] at c15
      refine y_aload_n hE dX4_outputAt_18 rfl (lv_at hl 0 rfl) ?_
      refine t_get (v := .ref (m 2)) hE 8 (by decide) q1984 rfl hW rfl dX4_outputAt_19 ?_
      refine y_iload_n hE dX4_outputAt_22 rfl (lv_at hl 1 rfl) ?_
      refine t_cldL (j := k) hE hW (rfl) (by omega) dX4_outputAt_23 ?_
      refine y_goto (tgt := 28) hE dX4_outputAt_24 (by decide) ?_
      rw [hQ]
      exact y_set1 (by simp [q_i, hxi, zb, hx]) (y_zret hE (by simp only [q_i, hxi]; exact hL k hk) dX4_outputAt_28 ⟨rfl, (hW.cast (by have h2 := hx; unfold m_isT at h2; simp [q_i, hxi, h2, zb]) rfl rfl rfl rfl rfl)⟩ (Nat.le_of_ble_eq_true rfl) (Nat.le_of_ble_eq_true rfl))

set_option maxHeartbeats 1000000 in
theorem kX4_appendInput {z : State} {D : yD} {m : Nat → Nat} {g B : Nat → Int32} {Bs : Nat → Nat → Int32} {L I C : Nat → Int32} (t : Nat) (x : Int32) (ht : g 11 = nI t) (ht2 : t ≤ 60) : yM yX4_appendInput (ws_ yX4_appendInput cX4_appendInput 2 (some .int)) (rmD 2 0 0) z D [.ref (m 0), .int x] (tW z D m g B Bs L I C) eI (fun vr H => vr = (if a_thr x t = 0 then nI (t + 1) else 0) ∧ tW z D m (if a_thr x t = 0 then upd (upd g 0 0) 11 (nI (t + 1)) else upd g 0 (a_thr x t)) B Bs L (if a_thr x t = 0 then upd I t x else I) C H) 0 0 (tA m) := by
  refine yM_of (own := RX4) (by decide +kernel) rfl (Nat.le_of_ble_eq_true rfl) (fun H h => h.az) fun E hE hW ls hl hin => ?_
  obtain ⟨Q, hQ⟩ : ∃ Q, Q = yEm E eI (fun vr H => vr = (if a_thr x t = 0 then nI (t + 1) else 0) ∧ tW z D m (if a_thr x t = 0 then upd (upd g 0 0) 11 (nI (t + 1)) else upd g 0 (a_thr x t)) B Bs L (if a_thr x t = 0 then upd I t x else I) C H) 0 0 (tA m) := ⟨_, rfl⟩
  rw [← hQ]
  generalize (e_s E).heap = H at hW ⊢
  have hl : lv_has ls 2 [(0, .ref (m 0)), (1, .int x)] := hl
  rcases m_chr_or x with ⟨hx, hxi⟩ | ⟨k, hk, rfl, hx, hxi⟩
  · -- no such place
    refine y_aload_n hE dX4_appendInput_0 rfl (lv_at hl 0 rfl) ?_
    refine y_iload_n hE dX4_appendInput_1 rfl (lv_at hl 1 rfl) ?_
    refine y_bipush (v := 32) hE dX4_appendInput_2 (by decide) ?_
    refine y_bipush (v := 126) hE dX4_appendInput_4 (by decide) ?_
    -- call in ['x', '32', '126']
    refine y_roS (rest := [.ref (m 0)]) hE cl_X4_53 (kX4_in x 32 126) dX4_appendInput_6 hl (Nat.le_of_ble_eq_true rfl) rfl rfl (Nat.le_of_ble_eq_true rfl) trivial ⟨(Nat.le_of_ble_eq_true rfl), (Nat.le_of_ble_eq_true rfl)⟩ ?_
    refine y_if_ne (tgt := 16) hE dX4_appendInput_9 (by decide) (fun c9 => ?_) (fun c9 => ?_)
    · -- t 9
      rw [zb_1] at c9
      exact absurd c9 (by simp [hx])
    · -- f 9
      rw [zb_0] at c9
      refine y_iconst (v := 1) hE dX4_appendInput_12 (by decide) ?_
      refine y_goto (tgt := 30) hE dX4_appendInput_13 (by decide) ?_
      refine t_put (g' := upd g 0 1) hE hW 0 (by decide) q1976 rfl rfl rfl rfl rfl dX4_appendInput_30 (fun H hW => ?_)
      refine y_aload_n hE dX4_appendInput_33 rfl (lv_at hl 0 rfl) ?_
      refine t_get (v := .int 1) hE 0 (by decide) q1976 rfl hW rfl dX4_appendInput_34 ?_
      refine y_if_eq (tgt := 42) hE dX4_appendInput_37 (by decide) (fun c37 => ?_) (fun c37 => ?_)
      · -- t 37
        exact absurd c37 (by decide)
      · -- f 37
        refine y_iconst (v := 0) hE dX4_appendInput_40 (by decide) ?_
        rw [hQ]
        exact y_iret hE dX4_appendInput_41 ⟨(by simp [a_thr, hxi]), (hW.cast (by simp [a_thr, hxi]) rfl rfl rfl (by simp [a_thr, hxi]) rfl)⟩ (Nat.le_of_ble_eq_true rfl) (Nat.le_of_ble_eq_true rfl)
  · -- a place
    have hl : lv_has ls 2 [(0, .ref (m 0)), (1, .int (nI k))] := hl
    refine y_aload_n hE dX4_appendInput_0 rfl (lv_at hl 0 rfl) ?_
    refine y_iload_n hE dX4_appendInput_1 rfl (lv_at hl 1 rfl) ?_
    refine y_bipush (v := 32) hE dX4_appendInput_2 (by decide) ?_
    refine y_bipush (v := 126) hE dX4_appendInput_4 (by decide) ?_
    -- call in ['nI k', '32', '126']
    refine y_roS (rest := [.ref (m 0)]) hE cl_X4_53 (kX4_in (nI k) 32 126) dX4_appendInput_6 hl (Nat.le_of_ble_eq_true rfl) rfl rfl (Nat.le_of_ble_eq_true rfl) trivial ⟨(Nat.le_of_ble_eq_true rfl), (Nat.le_of_ble_eq_true rfl)⟩ ?_
    refine y_if_ne (tgt := 16) hE dX4_appendInput_9 (by decide) (fun c9 => ?_) (fun c9 => ?_)
    · -- t 9
      rw [zb_1] at c9
      refine y_aload_n hE dX4_appendInput_16 rfl (lv_at hl 0 rfl) ?_
      refine t_get (v := .int (g 11)) hE 11 (by decide) q1987 rfl hW rfl dX4_appendInput_17 ?_
      refine y_set1 (w := nI t) (ht) ?_
      refine y_bipush (v := 60) hE dX4_appendInput_20 (by decide) ?_
      refine y_icmp_ne (tgt := 29) hE dX4_appendInput_22 (by decide) (fun c22 => ?_) (fun c22 => ?_)
      · -- t 22
        refine y_iconst (v := 0) hE dX4_appendInput_29 (by decide) ?_
        refine t_put (g' := upd g 0 0) hE hW 0 (by decide) q1976 rfl rfl rfl rfl rfl dX4_appendInput_30 (fun H hW => ?_)
        refine y_aload_n hE dX4_appendInput_33 rfl (lv_at hl 0 rfl) ?_
        refine t_get (v := .int 0) hE 0 (by decide) q1976 rfl hW rfl dX4_appendInput_34 ?_
        refine y_if_eq (tgt := 42) hE dX4_appendInput_37 (by decide) (fun c37 => ?_) (fun c37 => ?_)
        · -- t 37
          refine y_aload_n hE dX4_appendInput_42 rfl (lv_at hl 0 rfl) ?_
          refine t_get (v := .ref (m 3)) hE 10 (by decide) q1986 rfl hW rfl dX4_appendInput_43 ?_
          refine y_aload_n hE dX4_appendInput_46 rfl (lv_at hl 0 rfl) ?_
          refine t_get (v := .int (g 11)) hE 11 (by decide) q1987 rfl hW rfl dX4_appendInput_47 ?_
          refine y_set1 (w := nI t) (ht) ?_
          have h60 : ¬ t = 60 := fun h => c22 ((nI_60 ht2).mpr h)
          refine y_iload_n hE dX4_appendInput_50 rfl (lv_at hl 1 rfl) ?_
          refine t_castI (j := t) (x' := nI k) hE hW (rfl) (by omega) (ch_nar (by omega)) dX4_appendInput_51 (fun H hW => ?_)
          refine y_aload_n hE dX4_appendInput_52 rfl (lv_at hl 0 rfl) ?_
          refine y_dup hE dX4_appendInput_53 rfl ?_
          refine t_get (v := .int (g 11)) hE 11 (by decide) q1987 rfl hW rfl dX4_appendInput_54 ?_
          refine y_iconst (v := 1) hE dX4_appendInput_57 (by decide) ?_
          refine y_iadd hE dX4_appendInput_58 ?_
          refine y_set1 (w := nI (t + 1)) (by rw [ht]; exact nI_1 t) ?_
          refine t_put (g' := upd (upd g 0 0) 11 (nI (t + 1))) hE hW 11 (by decide) q1987 rfl rfl rfl rfl rfl dX4_appendInput_59 (fun H hW => ?_)
          refine y_aload_n hE dX4_appendInput_62 rfl (lv_at hl 0 rfl) ?_
          refine t_get (v := .int (nI (t + 1))) hE 11 (by decide) q1987 rfl hW rfl dX4_appendInput_63 ?_
          rw [hQ]
          exact y_iret hE dX4_appendInput_66 ⟨(by simp [a_thr, hxi, h60]), (hW.cast (by simp [a_thr, hxi, h60]) rfl rfl rfl (by simp [a_thr, hxi, h60]) rfl)⟩ (Nat.le_of_ble_eq_true rfl) (Nat.le_of_ble_eq_true rfl)
        · -- f 37
          exact absurd c37 (by decide)
      · -- f 22
        have h60 : t = 60 := (nI_60 ht2).mp c22
        refine y_iconst (v := 2) hE dX4_appendInput_25 (by decide) ?_
        refine y_goto (tgt := 30) hE dX4_appendInput_26 (by decide) ?_
        refine t_put (g' := upd g 0 2) hE hW 0 (by decide) q1976 rfl rfl rfl rfl rfl dX4_appendInput_30 (fun H hW => ?_)
        refine y_aload_n hE dX4_appendInput_33 rfl (lv_at hl 0 rfl) ?_
        refine t_get (v := .int 2) hE 0 (by decide) q1976 rfl hW rfl dX4_appendInput_34 ?_
        refine y_if_eq (tgt := 42) hE dX4_appendInput_37 (by decide) (fun c37 => ?_) (fun c37 => ?_)
        · -- t 37
          exact absurd c37 (by decide)
        · -- f 37
          refine y_iconst (v := 0) hE dX4_appendInput_40 (by decide) ?_
          rw [hQ]
          exact y_iret hE dX4_appendInput_41 ⟨(by simp [a_thr, hxi, h60]), (hW.cast (by simp [a_thr, hxi, h60]) rfl rfl rfl (by simp [a_thr, hxi, h60]) rfl)⟩ (Nat.le_of_ble_eq_true rfl) (Nat.le_of_ble_eq_true rfl)
    · -- f 9
      rw [zb_0] at c9
      exact absurd c9 (by simp [hx])

set_option maxHeartbeats 1000000 in
theorem kX4_writesNumber_1 {z : State} {D : yD} {m : Nat → Nat} {g B : Nat → Int32} {Bs : Nat → Nat → Int32} {L I C : Nat → Int32} (s : Nat) (v : Nat) (hs : s < 40) (hv : v ≤ 9) : yM yX4_writesNumber (ws_ yX4_writesNumber cX4_writesNumber 2 none) (rmD 2 0 0) z D [.ref (m 0), .int (nI v)] (tW z D m (lG g s) B Bs L I C) eV (fun _ H => tW z D m (lG g (s + (dg1 v).length)) B Bs (tAp L s (dg1 v)) I C H) 0 0 (tA m) := by
  refine yM_of (own := RX4) (by decide +kernel) rfl (Nat.le_of_ble_eq_true rfl) (fun H h => h.az) fun E hE hW ls hl hin => ?_
  obtain ⟨Q, hQ⟩ : ∃ Q, Q = yEm E eV (fun _ H => tW z D m (lG g (s + (dg1 v).length)) B Bs (tAp L s (dg1 v)) I C H) 0 0 (tA m) := ⟨_, rfl⟩
  rw [← hQ]
  generalize (e_s E).heap = H at hW ⊢
  have hl : lv_has ls 2 [(0, .ref (m 0)), (1, .int (nI v))] := hl
  have h9 : ¬ ¬ nI v ≤ 9 := fun h => h (nI_le (b := 9) hv (by omega))
  refine y_iload_n hE dX4_writesNumber_0 rfl (lv_at hl 1 rfl) ?_
  refine y_bipush (v := 9) hE dX4_writesNumber_1 (by decide) ?_
  refine y_icmp_le (tgt := 14) hE dX4_writesNumber_3 (by decide) (fun c3 => ?_) (fun c3 => ?_)
  · -- t 3
    have n3 := Int32.not_lt.mpr c3
    refine y_aload_n hE dX4_writesNumber_14 rfl (lv_at hl 0 rfl) ?_
    refine y_bipush (v := 48) hE dX4_writesNumber_15 (by decide) ?_
    refine y_iload_n hE dX4_writesNumber_17 rfl (lv_at hl 1 rfl) ?_
    refine y_bipush (v := 10) hE dX4_writesNumber_18 (by decide) ?_
    refine y_irem hE dX4_writesNumber_20 (by decide) ?_
    refine y_set1 (w := nI (v % 10)) (nI_mod10 (by omega)) ?_
    refine y_iadd hE dX4_writesNumber_21 ?_
    refine y_set1 (w := nI (48 + v % 10)) (nI_add 48 (v % 10)) ?_
    -- call writes ['(48 + v % 10)']
    refine y_muV (rest := []) hE cl_X4_194 (kX4_writes s (48 + v % 10) hs (by omega)) dX4_writesNumber_22 hl (Nat.le_of_ble_eq_true rfl) (y_recv hE rfl hW.1) rfl rfl (Nat.le_of_ble_eq_true rfl) hW (fun _ h => h) ⟨(Nat.le_of_ble_eq_true rfl), (Nat.le_of_ble_eq_true rfl)⟩ (fun vr H hW _ _ => ?_)
    have hW : tW z D m (lG g (s + ([nI (48 + v % 10)]).length)) B Bs (tAp L s ([nI (48 + v % 10)])) I C H := hW
    refine y_st (st' := []) rfl ?_
    rw [hQ]
    exact y_vret hE dX4_writesNumber_25 (hW.cast rfl rfl rfl rfl rfl rfl) (Nat.le_of_ble_eq_true rfl) (Nat.le_of_ble_eq_true rfl)
  · -- f 3
    exact absurd c3 h9

set_option maxHeartbeats 1000000 in
theorem kX4_writesNumber {z : State} {D : yD} {m : Nat → Nat} {g B : Nat → Int32} {Bs : Nat → Nat → Int32} {L I C : Nat → Int32} (s : Nat) (v : Nat) (hs : s + 1 < 40) (hv : v ≤ 99) : yM yX4_writesNumber (ws_ yX4_writesNumber cX4_writesNumber 2 none) (rmD 3 0 0) z D [.ref (m 0), .int (nI v)] (tW z D m (lG g s) B Bs L I C) eV (fun _ H => tW z D m (lG g (s + (dg2 v).length)) B Bs (tAp L s (dg2 v)) I C H) 0 0 (tA m) := by
  refine yM_of (own := RX4) (by decide +kernel) rfl (Nat.le_of_ble_eq_true rfl) (fun H h => h.az) fun E hE hW ls hl hin => ?_
  obtain ⟨Q, hQ⟩ : ∃ Q, Q = yEm E eV (fun _ H => tW z D m (lG g (s + (dg2 v).length)) B Bs (tAp L s (dg2 v)) I C H) 0 0 (tA m) := ⟨_, rfl⟩
  rw [← hQ]
  generalize (e_s E).heap = H at hW ⊢
  have hl : lv_has ls 2 [(0, .ref (m 0)), (1, .int (nI v))] := hl
  refine y_iload_n hE dX4_writesNumber_0 rfl (lv_at hl 1 rfl) ?_
  refine y_bipush (v := 9) hE dX4_writesNumber_1 (by decide) ?_
  refine y_icmp_le (tgt := 14) hE dX4_writesNumber_3 (by decide) (fun c3 => ?_) (fun c3 => ?_)
  · -- t 3
    have n3 := Int32.not_lt.mpr c3
    have h9 : v ≤ 9 := (nI_leI (by omega) (by omega)).mp (show nI v ≤ nI 9 from c3)
    have e2 : dg2 v = dg1 v := by rw [dg2, if_pos h9]
    refine y_aload_n hE dX4_writesNumber_14 rfl (lv_at hl 0 rfl) ?_
    refine y_bipush (v := 48) hE dX4_writesNumber_15 (by decide) ?_
    refine y_iload_n hE dX4_writesNumber_17 rfl (lv_at hl 1 rfl) ?_
    refine y_bipush (v := 10) hE dX4_writesNumber_18 (by decide) ?_
    refine y_irem hE dX4_writesNumber_20 (by decide) ?_
    refine y_set1 (w := nI (v % 10)) (nI_mod10 (by omega)) ?_
    refine y_iadd hE dX4_writesNumber_21 ?_
    refine y_set1 (w := nI (48 + v % 10)) (nI_add 48 (v % 10)) ?_
    -- call writes ['(48 + v % 10)']
    refine y_muV (rest := []) hE cl_X4_194 (kX4_writes s (48 + v % 10) (by first | omega | (simp only [dg1_len]; omega)) (by omega)) dX4_writesNumber_22 hl (Nat.le_of_ble_eq_true rfl) (y_recv hE rfl hW.1) rfl rfl (Nat.le_of_ble_eq_true rfl) hW (fun _ h => h) ⟨(Nat.le_of_ble_eq_true rfl), (Nat.le_of_ble_eq_true rfl)⟩ (fun vr H hW _ _ => ?_)
    have hW : tW z D m (lG g (s + ([nI (48 + v % 10)]).length)) B Bs (tAp L s ([nI (48 + v % 10)])) I C H := hW
    refine y_st (st' := []) rfl ?_
    rw [hQ]
    exact y_vret hE dX4_writesNumber_25 ((hW.cast (by rw [e2]; rfl) rfl rfl (by rw [e2]; rfl) rfl rfl)) (Nat.le_of_ble_eq_true rfl) (Nat.le_of_ble_eq_true rfl)
  · -- f 3
    have n3 := Int32.not_le.mp c3
    have h9 : ¬ v ≤ 9 := fun h => c3 (nI_le (b := 9) h (by omega))
    have e2 : dg2 v = dg1 (v / 10) ++ dg1 v := by rw [dg2, if_neg h9]
    refine y_aload_n hE dX4_writesNumber_6 rfl (lv_at hl 0 rfl) ?_
    refine y_iload_n hE dX4_writesNumber_7 rfl (lv_at hl 1 rfl) ?_
    refine y_bipush (v := 10) hE dX4_writesNumber_8 (by decide) ?_
    refine y_idiv hE dX4_writesNumber_10 (by decide) ?_
    refine y_set1 (w := nI (v / 10)) (nI_div10 (by omega)) ?_
    -- call writesNumber ['(v / 10)']
    refine y_muV (rest := []) hE cl_X4_190 (kX4_writesNumber_1 s (v / 10) (by omega) (by omega)) dX4_writesNumber_11 hl (Nat.le_of_ble_eq_true rfl) (y_recv hE rfl hW.1) rfl rfl (Nat.le_of_ble_eq_true rfl) hW (fun _ h => h) ⟨(Nat.le_of_ble_eq_true rfl), (Nat.le_of_ble_eq_true rfl)⟩ (fun vr H hW _ _ => ?_)
    have hW : tW z D m (lG g (s + (dg1 (v / 10)).length)) B Bs (tAp L s (dg1 (v / 10))) I C H := hW
    refine y_st (st' := []) rfl ?_
    refine y_aload_n hE dX4_writesNumber_14 rfl (lv_at hl 0 rfl) ?_
    refine y_bipush (v := 48) hE dX4_writesNumber_15 (by decide) ?_
    refine y_iload_n hE dX4_writesNumber_17 rfl (lv_at hl 1 rfl) ?_
    refine y_bipush (v := 10) hE dX4_writesNumber_18 (by decide) ?_
    refine y_irem hE dX4_writesNumber_20 (by decide) ?_
    refine y_set1 (w := nI (v % 10)) (nI_mod10 (by omega)) ?_
    refine y_iadd hE dX4_writesNumber_21 ?_
    refine y_set1 (w := nI (48 + v % 10)) (nI_add 48 (v % 10)) ?_
    -- call writes ['(48 + v % 10)']
    refine y_muV (rest := []) hE cl_X4_194 (kX4_writes (s + (dg1 (v / 10)).length) (48 + v % 10) (by first | omega | (simp only [dg1_len]; omega)) (by omega)) dX4_writesNumber_22 hl (Nat.le_of_ble_eq_true rfl) (y_recv hE rfl hW.1) rfl rfl (Nat.le_of_ble_eq_true rfl) hW (fun _ h => h) ⟨(Nat.le_of_ble_eq_true rfl), (Nat.le_of_ble_eq_true rfl)⟩ (fun vr H hW _ _ => ?_)
    have hW : tW z D m (lG g (s + (dg1 (v / 10)).length + ([nI (48 + v % 10)]).length)) B Bs (tAp (tAp L s (dg1 (v / 10))) (s + (dg1 (v / 10)).length) ([nI (48 + v % 10)])) I C H := hW
    refine y_st (st' := []) rfl ?_
    rw [hQ]
    exact y_vret hE dX4_writesNumber_25 ((hW.cast (by rw [e2]; rfl) rfl rfl (by rw [e2]; rfl) rfl rfl)) (Nat.le_of_ble_eq_true rfl) (Nat.le_of_ble_eq_true rfl)

set_option maxHeartbeats 1000000 in
theorem kX4_writesBehind {z : State} {D : yD} {m : Nat → Nat} {g B : Nat → Int32} {Bs : Nat → Nat → Int32} {L I C : Nat → Int32} (s : Nat) (x : Nat) (v : Nat) (hs : s + 2 < 40) (hx : x < 65536) (hv : v ≤ 99) : yM yX4_writesBehind (ws_ yX4_writesBehind cX4_writesBehind 3 none) (rmD 4 0 0) z D [.ref (m 0), .int (nI x), .int (nI v)] (tW z D m (lG g s) B Bs L I C) eV (fun _ H => tW z D m (lG g (s + (nI x :: dg2 v).length)) B Bs (tAp L s (nI x :: dg2 v)) I C H) 0 0 (tA m) := by
  refine yM_of (own := RX4) (by decide +kernel) rfl (Nat.le_of_ble_eq_true rfl) (fun H h => h.az) fun E hE hW ls hl hin => ?_
  obtain ⟨Q, hQ⟩ : ∃ Q, Q = yEm E eV (fun _ H => tW z D m (lG g (s + (nI x :: dg2 v).length)) B Bs (tAp L s (nI x :: dg2 v)) I C H) 0 0 (tA m) := ⟨_, rfl⟩
  rw [← hQ]
  generalize (e_s E).heap = H at hW ⊢
  have hl : lv_has ls 3 [(0, .ref (m 0)), (1, .int (nI x)), (2, .int (nI v))] := hl
  refine y_aload_n hE dX4_writesBehind_0 rfl (lv_at hl 0 rfl) ?_
  refine y_iload_n hE dX4_writesBehind_1 rfl (lv_at hl 1 rfl) ?_
  -- call writes ['x']
  refine y_muV (rest := []) hE cl_X4_194 (kX4_writes s x (by omega) hx) dX4_writesBehind_2 hl (Nat.le_of_ble_eq_true rfl) (y_recv hE rfl hW.1) rfl rfl (Nat.le_of_ble_eq_true rfl) hW (fun _ h => h) ⟨(Nat.le_of_ble_eq_true rfl), (Nat.le_of_ble_eq_true rfl)⟩ (fun vr H hW _ _ => ?_)
  have hW : tW z D m (lG g (s + ([nI x]).length)) B Bs (tAp L s ([nI x])) I C H := hW
  refine y_st (st' := []) rfl ?_
  refine y_aload_n hE dX4_writesBehind_5 rfl (lv_at hl 0 rfl) ?_
  refine y_iload_n hE dX4_writesBehind_6 rfl (lv_at hl 2 rfl) ?_
  -- call writesNumber ['v']
  refine y_muV (rest := []) hE cl_X4_190 (kX4_writesNumber (s + ([nI x]).length) v (by simp only [List.length_cons, List.length_nil]; omega) hv) dX4_writesBehind_7 hl (Nat.le_of_ble_eq_true rfl) (y_recv hE rfl hW.1) rfl rfl (Nat.le_of_ble_eq_true rfl) hW (fun _ h => h) ⟨(Nat.le_of_ble_eq_true rfl), (Nat.le_of_ble_eq_true rfl)⟩ (fun vr H hW _ _ => ?_)
  have hW : tW z D m (lG g (s + ([nI x]).length + (dg2 v).length)) B Bs (tAp (tAp L s ([nI x])) (s + ([nI x]).length) (dg2 v)) I C H := hW
  refine y_st (st' := []) rfl ?_
  rw [hQ]
  exact y_vret hE dX4_writesBehind_10 ((hW.cast (by simp only [List.length_cons, List.length_nil, Nat.add_assoc, Nat.add_comm 1]) rfl rfl rfl rfl rfl)) (Nat.le_of_ble_eq_true rfl) (Nat.le_of_ble_eq_true rfl)

set_option maxHeartbeats 1000000 in
theorem kX4_writeTurbine {z : State} {D : yD} {m : Nat → Nat} {g B : Nat → Int32} {Bs : Nat → Nat → Int32} {L I C : Nat → Int32} (n : Nat) (x : Int32) (hn : B 0 = nI n) (hN : n ≤ 12) (hv : ∀ k : Nat, k < n → ∀ w : Nat, w < 6 → m_t B k w = nI (m_tn B k w) ∧ m_tn B k w ≤ 91) (ho : ∀ k : Nat, k < n → m_out B n k = nI (m_on B n k) ∧ m_on B n k ≤ 91) : yM yX4_writeTurbine (ws_ yX4_writeTurbine cX4_writeTurbine 2 (some .int)) (rmD 9 0 0) z D [.ref (m 0), .int x] (tW z D m g B Bs L I C) eI (fun vr H => vr = w_r B n (m_idx n x) ∧ tW z D m (w_g g B n (m_idx n x)) B Bs (w_L L B n (m_idx n x)) I C H) 0 0 (tA m) := by
  refine yM_of (own := RX4) (by decide +kernel) rfl (Nat.le_of_ble_eq_true rfl) (fun H h => h.az) fun E hE hW ls hl hin => ?_
  obtain ⟨Q, hQ⟩ : ∃ Q, Q = yEm E eI (fun vr H => vr = w_r B n (m_idx n x) ∧ tW z D m (w_g g B n (m_idx n x)) B Bs (w_L L B n (m_idx n x)) I C H) 0 0 (tA m) := ⟨_, rfl⟩
  rw [← hQ]
  generalize (e_s E).heap = H at hW ⊢
  have hl : lv_has ls 2 [(0, .ref (m 0)), (1, .int x)] := hl
  rcases m_isT_or n x hN with ⟨hx, hxi⟩ | ⟨k, hk, rfl, hx, hxi⟩
  · -- no such place
    refine y_aload_n hE dX4_writeTurbine_0 rfl (lv_at hl 0 rfl) ?_
    refine y_aload_n hE dX4_writeTurbine_1 rfl (lv_at hl 0 rfl) ?_
    refine y_iload_n hE dX4_writeTurbine_2 rfl (lv_at hl 1 rfl) ?_
    -- call isTurbine ['x']
    refine y_roV (rest := [.ref (m 0)]) hE cl_X4_103 (kX4_isTurbine n x hn) dX4_writeTurbine_3 hl (Nat.le_of_ble_eq_true rfl) (y_recv hE rfl hW.1) rfl rfl (Nat.le_of_ble_eq_true rfl) hW ⟨(Nat.le_of_ble_eq_true rfl), (Nat.le_of_ble_eq_true rfl)⟩ ?_
    -- call isFine ['(m_isT n x)']
    refine y_muV (rest := []) hE cl_X4_49 (kX4_isFine (m_isT n x)) dX4_writeTurbine_6 hl (Nat.le_of_ble_eq_true rfl) (y_recv hE rfl hW.1) rfl rfl (Nat.le_of_ble_eq_true rfl) hW (fun _ h => h) ⟨(Nat.le_of_ble_eq_true rfl), (Nat.le_of_ble_eq_true rfl)⟩ (fun vr H hW _ _ => ?_)
    obtain ⟨hr, hW⟩ := hW
    subst hr
    have hW : tW z D m (upd g 0 (zb (!(m_isT n x)))) B Bs L I C H := hW
    refine y_st (st' := [.int (zb (m_isT n x))]) rfl ?_
    refine y_if_ne (tgt := 14) hE dX4_writeTurbine_9 (by decide) (fun c9 => ?_) (fun c9 => ?_)
    · -- t 9
      rw [zb_1] at c9
      exact absurd c9 (by simp [hx])
    · -- f 9
      rw [zb_0] at c9
      refine y_iconst (v := 0) hE dX4_writeTurbine_12 (by decide) ?_
      rw [hQ]
      exact y_iret hE dX4_writeTurbine_13 ⟨(by simp [hxi, w_r, w_g, w_L, m_tx, m_text, nI_lits, zb, hx, hxi]), (hW.cast (by simp [hxi, w_r, w_g, w_L, m_tx, m_text, nI_lits, zb, hx, hxi]) rfl rfl (by simp [hxi, w_r, w_g, w_L, m_tx, m_text, nI_lits, zb, hx, hxi]) rfl rfl)⟩ (Nat.le_of_ble_eq_true rfl) (Nat.le_of_ble_eq_true rfl)
  · -- a place
    have hl : lv_has ls 2 [(0, .ref (m 0)), (1, .int (nI k))] := hl
    refine y_aload_n hE dX4_writeTurbine_0 rfl (lv_at hl 0 rfl) ?_
    refine y_aload_n hE dX4_writeTurbine_1 rfl (lv_at hl 0 rfl) ?_
    refine y_iload_n hE dX4_writeTurbine_2 rfl (lv_at hl 1 rfl) ?_
    -- call isTurbine ['nI k']
    refine y_roV (rest := [.ref (m 0)]) hE cl_X4_103 (kX4_isTurbine n (nI k) hn) dX4_writeTurbine_3 hl (Nat.le_of_ble_eq_true rfl) (y_recv hE rfl hW.1) rfl rfl (Nat.le_of_ble_eq_true rfl) hW ⟨(Nat.le_of_ble_eq_true rfl), (Nat.le_of_ble_eq_true rfl)⟩ ?_
    -- call isFine ['(m_isT n (nI k))']
    refine y_muV (rest := []) hE cl_X4_49 (kX4_isFine (m_isT n (nI k))) dX4_writeTurbine_6 hl (Nat.le_of_ble_eq_true rfl) (y_recv hE rfl hW.1) rfl rfl (Nat.le_of_ble_eq_true rfl) hW (fun _ h => h) ⟨(Nat.le_of_ble_eq_true rfl), (Nat.le_of_ble_eq_true rfl)⟩ (fun vr H hW _ _ => ?_)
    obtain ⟨hr, hW⟩ := hW
    subst hr
    have hW : tW z D m (upd g 0 (zb (!(m_isT n (nI k))))) B Bs L I C H := hW
    refine y_st (st' := [.int (zb (m_isT n (nI k)))]) rfl ?_
    refine y_if_ne (tgt := 14) hE dX4_writeTurbine_9 (by decide) (fun c9 => ?_) (fun c9 => ?_)
    · -- t 9
      rw [zb_1] at c9
      refine y_aload_n hE dX4_writeTurbine_14 rfl (lv_at hl 0 rfl) ?_
      refine y_iconst (v := 0) hE dX4_writeTurbine_15 (by decide) ?_
      refine t_put (g' := upd (upd g 0 (zb (!(m_isT n (nI k))))) 9 0) hE hW 9 (by decide) q1985 rfl rfl rfl rfl rfl dX4_writeTurbine_16 (fun H hW => ?_)
      have hW : tW z D m (lG (upd g 0 0) 0) B Bs L I C H := by rw [hx] at hW; exact hW
      refine y_aload_n hE dX4_writeTurbine_19 rfl (lv_at hl 0 rfl) ?_
      refine y_iload_n hE dX4_writeTurbine_20 rfl (lv_at hl 1 rfl) ?_
      -- call writesNumber ['k']
      refine y_muV (rest := []) hE cl_X4_190 (kX4_writesNumber 0 k (by (try simp only [List.length_append, List.length_cons, List.length_nil, dg1_len]); omega) (by omega)) dX4_writeTurbine_21 hl (Nat.le_of_ble_eq_true rfl) (y_recv hE rfl hW.1) rfl rfl (Nat.le_of_ble_eq_true rfl) hW (fun _ h => h) ⟨(Nat.le_of_ble_eq_true rfl), (Nat.le_of_ble_eq_true rfl)⟩ (fun vr H hW _ _ => ?_)
      have hW : tW z D m (lG (upd g 0 0) (0 + (dg2 k).length)) B Bs (tAp L 0 (dg2 k)) I C H := hW
      refine y_st (st' := []) rfl ?_
      replace hW := hW.cast (by rw [Nat.zero_add]) rfl rfl rfl rfl rfl
      have hW : tW z D m (lG (upd g 0 0) (dg2 k).length) B Bs (tAp L 0 (dg2 k)) I C H := hW
      refine y_aload_n hE dX4_writeTurbine_24 rfl (lv_at hl 0 rfl) ?_
      refine y_bipush (v := 64) hE dX4_writeTurbine_25 (by decide) ?_
      refine y_aload_n hE dX4_writeTurbine_27 rfl (lv_at hl 0 rfl) ?_
      refine y_iload_n hE dX4_writeTurbine_28 rfl (lv_at hl 1 rfl) ?_
      refine y_iconst (v := 0) hE dX4_writeTurbine_29 (by decide) ?_
      -- call t ['k', '0']
      refine y_roV (rest := [.int 64, .ref (m 0)]) hE cl_X4_57 (kX4_t k 0 (by omega) (by omega)) dX4_writeTurbine_30 hl (Nat.le_of_ble_eq_true rfl) (y_recv hE rfl hW.1) rfl rfl (Nat.le_of_ble_eq_true rfl) hW ⟨(Nat.le_of_ble_eq_true rfl), (Nat.le_of_ble_eq_true rfl)⟩ ?_
      refine y_set1 (w := nI (m_tn B k 0)) ((hv k hk 0 (by omega)).1) ?_
      -- call writesBehind ['64', '(m_tn B k 0)']
      refine y_muV (rest := []) hE cl_X4_197 (kX4_writesBehind ((dg2 k).length) 64 (m_tn B k 0) (by have := dg2_len k; (try simp only [List.length_append, List.length_cons, List.length_nil, dg1_len]); omega) (by omega) (by have := (hv k hk 0 (by omega)).2; omega)) dX4_writeTurbine_33 hl (Nat.le_of_ble_eq_true rfl) (y_recv hE rfl hW.1) rfl rfl (Nat.le_of_ble_eq_true rfl) hW (fun _ h => h) ⟨(Nat.le_of_ble_eq_true rfl), (Nat.le_of_ble_eq_true rfl)⟩ (fun vr H hW _ _ => ?_)
      have hW : tW z D m (lG (upd g 0 0) ((dg2 k).length + (nI 64 :: dg2 (m_tn B k 0)).length)) B Bs (tAp (tAp L 0 (dg2 k)) ((dg2 k).length) (nI 64 :: dg2 (m_tn B k 0))) I C H := hW
      refine y_st (st' := []) rfl ?_
      replace hW := hW.cast (lG_0 _ _ _) rfl rfl (tAp_0 _ _ _) rfl rfl
      have hW : tW z D m (lG (upd g 0 0) ((dg2 k) ++ (nI 64 :: dg2 (m_tn B k 0))).length) B Bs (tAp L 0 ((dg2 k) ++ (nI 64 :: dg2 (m_tn B k 0)))) I C H := hW
      refine y_aload_n hE dX4_writeTurbine_36 rfl (lv_at hl 0 rfl) ?_
      refine y_bipush (v := 44) hE dX4_writeTurbine_37 (by decide) ?_
      refine y_aload_n hE dX4_writeTurbine_39 rfl (lv_at hl 0 rfl) ?_
      refine y_iload_n hE dX4_writeTurbine_40 rfl (lv_at hl 1 rfl) ?_
      refine y_iconst (v := 1) hE dX4_writeTurbine_41 (by decide) ?_
      -- call t ['k', '1']
      refine y_roV (rest := [.int 44, .ref (m 0)]) hE cl_X4_57 (kX4_t k 1 (by omega) (by omega)) dX4_writeTurbine_42 hl (Nat.le_of_ble_eq_true rfl) (y_recv hE rfl hW.1) rfl rfl (Nat.le_of_ble_eq_true rfl) hW ⟨(Nat.le_of_ble_eq_true rfl), (Nat.le_of_ble_eq_true rfl)⟩ ?_
      refine y_set1 (w := nI (m_tn B k 1)) ((hv k hk 1 (by omega)).1) ?_
      -- call writesBehind ['44', '(m_tn B k 1)']
      refine y_muV (rest := []) hE cl_X4_197 (kX4_writesBehind (((dg2 k) ++ (nI 64 :: dg2 (m_tn B k 0))).length) 44 (m_tn B k 1) (by have := dg2_len k; have := dg2_len (m_tn B k 0); (try simp only [List.length_append, List.length_cons, List.length_nil, dg1_len]); omega) (by omega) (by have := (hv k hk 1 (by omega)).2; omega)) dX4_writeTurbine_45 hl (Nat.le_of_ble_eq_true rfl) (y_recv hE rfl hW.1) rfl rfl (Nat.le_of_ble_eq_true rfl) hW (fun _ h => h) ⟨(Nat.le_of_ble_eq_true rfl), (Nat.le_of_ble_eq_true rfl)⟩ (fun vr H hW _ _ => ?_)
      have hW : tW z D m (lG (upd g 0 0) (((dg2 k) ++ (nI 64 :: dg2 (m_tn B k 0))).length + (nI 44 :: dg2 (m_tn B k 1)).length)) B Bs (tAp (tAp L 0 ((dg2 k) ++ (nI 64 :: dg2 (m_tn B k 0)))) (((dg2 k) ++ (nI 64 :: dg2 (m_tn B k 0))).length) (nI 44 :: dg2 (m_tn B k 1))) I C H := hW
      refine y_st (st' := []) rfl ?_
      replace hW := hW.cast (lG_0 _ _ _) rfl rfl (tAp_0 _ _ _) rfl rfl
      have hW : tW z D m (lG (upd g 0 0) (((dg2 k) ++ (nI 64 :: dg2 (m_tn B k 0))) ++ (nI 44 :: dg2 (m_tn B k 1))).length) B Bs (tAp L 0 (((dg2 k) ++ (nI 64 :: dg2 (m_tn B k 0))) ++ (nI 44 :: dg2 (m_tn B k 1)))) I C H := hW
      refine y_aload_n hE dX4_writeTurbine_48 rfl (lv_at hl 0 rfl) ?_
      refine y_bipush (v := 112) hE dX4_writeTurbine_49 (by decide) ?_
      refine y_aload_n hE dX4_writeTurbine_51 rfl (lv_at hl 0 rfl) ?_
      refine y_iload_n hE dX4_writeTurbine_52 rfl (lv_at hl 1 rfl) ?_
      refine y_iconst (v := 2) hE dX4_writeTurbine_53 (by decide) ?_
      -- call t ['k', '2']
      refine y_roV (rest := [.int 112, .ref (m 0)]) hE cl_X4_57 (kX4_t k 2 (by omega) (by omega)) dX4_writeTurbine_54 hl (Nat.le_of_ble_eq_true rfl) (y_recv hE rfl hW.1) rfl rfl (Nat.le_of_ble_eq_true rfl) hW ⟨(Nat.le_of_ble_eq_true rfl), (Nat.le_of_ble_eq_true rfl)⟩ ?_
      refine y_set1 (w := nI (m_tn B k 2)) ((hv k hk 2 (by omega)).1) ?_
      -- call writesBehind ['112', '(m_tn B k 2)']
      refine y_muV (rest := []) hE cl_X4_197 (kX4_writesBehind ((((dg2 k) ++ (nI 64 :: dg2 (m_tn B k 0))) ++ (nI 44 :: dg2 (m_tn B k 1))).length) 112 (m_tn B k 2) (by have := dg2_len k; have := dg2_len (m_tn B k 0); have := dg2_len (m_tn B k 1); (try simp only [List.length_append, List.length_cons, List.length_nil, dg1_len]); omega) (by omega) (by have := (hv k hk 2 (by omega)).2; omega)) dX4_writeTurbine_57 hl (Nat.le_of_ble_eq_true rfl) (y_recv hE rfl hW.1) rfl rfl (Nat.le_of_ble_eq_true rfl) hW (fun _ h => h) ⟨(Nat.le_of_ble_eq_true rfl), (Nat.le_of_ble_eq_true rfl)⟩ (fun vr H hW _ _ => ?_)
      have hW : tW z D m (lG (upd g 0 0) ((((dg2 k) ++ (nI 64 :: dg2 (m_tn B k 0))) ++ (nI 44 :: dg2 (m_tn B k 1))).length + (nI 112 :: dg2 (m_tn B k 2)).length)) B Bs (tAp (tAp L 0 (((dg2 k) ++ (nI 64 :: dg2 (m_tn B k 0))) ++ (nI 44 :: dg2 (m_tn B k 1)))) ((((dg2 k) ++ (nI 64 :: dg2 (m_tn B k 0))) ++ (nI 44 :: dg2 (m_tn B k 1))).length) (nI 112 :: dg2 (m_tn B k 2))) I C H := hW
      refine y_st (st' := []) rfl ?_
      replace hW := hW.cast (lG_0 _ _ _) rfl rfl (tAp_0 _ _ _) rfl rfl
      have hW : tW z D m (lG (upd g 0 0) ((((dg2 k) ++ (nI 64 :: dg2 (m_tn B k 0))) ++ (nI 44 :: dg2 (m_tn B k 1))) ++ (nI 112 :: dg2 (m_tn B k 2))).length) B Bs (tAp L 0 ((((dg2 k) ++ (nI 64 :: dg2 (m_tn B k 0))) ++ (nI 44 :: dg2 (m_tn B k 1))) ++ (nI 112 :: dg2 (m_tn B k 2)))) I C H := hW
      refine y_aload_n hE dX4_writeTurbine_60 rfl (lv_at hl 0 rfl) ?_
      refine y_bipush (v := 61) hE dX4_writeTurbine_61 (by decide) ?_
      refine y_aload_n hE dX4_writeTurbine_63 rfl (lv_at hl 0 rfl) ?_
      refine y_iload_n hE dX4_writeTurbine_64 rfl (lv_at hl 1 rfl) ?_
      -- call output ['k']
      refine y_roV (rest := [.int 61, .ref (m 0)]) hE cl_X4_77 (kX4_output n k (by repeat (first | exact hn | rw [upd_ne (by omega)] | rw [m_cuts_lo _ _ (by omega)] | rw [m_ticks_lo _ (by omega)] | rw [m_rels_lo _ (by omega)] | rw [m_hours_lo _ _ _ (by omega)] | rw [m_pay_lo _ _ _ (by omega)] | rw [tGo_2])) hN (by omega)) dX4_writeTurbine_65 hl (Nat.le_of_ble_eq_true rfl) (y_recv hE rfl hW.1) rfl rfl (Nat.le_of_ble_eq_true rfl) hW ⟨(Nat.le_of_ble_eq_true rfl), (Nat.le_of_ble_eq_true rfl)⟩ ?_
      refine y_set1 (w := nI (m_on B n k)) ((ho k hk).1) ?_
      -- call writesBehind ['61', '(m_on B n k)']
      refine y_muV (rest := []) hE cl_X4_197 (kX4_writesBehind (((((dg2 k) ++ (nI 64 :: dg2 (m_tn B k 0))) ++ (nI 44 :: dg2 (m_tn B k 1))) ++ (nI 112 :: dg2 (m_tn B k 2))).length) 61 (m_on B n k) (by have := dg2_len k; have := dg2_len (m_tn B k 0); have := dg2_len (m_tn B k 1); have := dg2_len (m_tn B k 2); (try simp only [List.length_append, List.length_cons, List.length_nil, dg1_len]); omega) (by omega) (by have := (ho k hk).2; omega)) dX4_writeTurbine_68 hl (Nat.le_of_ble_eq_true rfl) (y_recv hE rfl hW.1) rfl rfl (Nat.le_of_ble_eq_true rfl) hW (fun _ h => h) ⟨(Nat.le_of_ble_eq_true rfl), (Nat.le_of_ble_eq_true rfl)⟩ (fun vr H hW _ _ => ?_)
      have hW : tW z D m (lG (upd g 0 0) (((((dg2 k) ++ (nI 64 :: dg2 (m_tn B k 0))) ++ (nI 44 :: dg2 (m_tn B k 1))) ++ (nI 112 :: dg2 (m_tn B k 2))).length + (nI 61 :: dg2 (m_on B n k)).length)) B Bs (tAp (tAp L 0 ((((dg2 k) ++ (nI 64 :: dg2 (m_tn B k 0))) ++ (nI 44 :: dg2 (m_tn B k 1))) ++ (nI 112 :: dg2 (m_tn B k 2)))) (((((dg2 k) ++ (nI 64 :: dg2 (m_tn B k 0))) ++ (nI 44 :: dg2 (m_tn B k 1))) ++ (nI 112 :: dg2 (m_tn B k 2))).length) (nI 61 :: dg2 (m_on B n k))) I C H := hW
      refine y_st (st' := []) rfl ?_
      replace hW := hW.cast (lG_0 _ _ _) rfl rfl (tAp_0 _ _ _) rfl rfl
      have hW : tW z D m (lG (upd g 0 0) (((((dg2 k) ++ (nI 64 :: dg2 (m_tn B k 0))) ++ (nI 44 :: dg2 (m_tn B k 1))) ++ (nI 112 :: dg2 (m_tn B k 2))) ++ (nI 61 :: dg2 (m_on B n k))).length) B Bs (tAp L 0 (((((dg2 k) ++ (nI 64 :: dg2 (m_tn B k 0))) ++ (nI 44 :: dg2 (m_tn B k 1))) ++ (nI 112 :: dg2 (m_tn B k 2))) ++ (nI 61 :: dg2 (m_on B n k)))) I C H := hW
      refine y_aload_n hE dX4_writeTurbine_71 rfl (lv_at hl 0 rfl) ?_
      refine y_iload_n hE dX4_writeTurbine_72 rfl (lv_at hl 1 rfl) ?_
      refine y_iconst (v := 5) hE dX4_writeTurbine_73 (by decide) ?_
      -- call t ['k', '5']
      refine y_roV (rest := []) hE cl_X4_57 (kX4_t k 5 (by omega) (by omega)) dX4_writeTurbine_74 hl (Nat.le_of_ble_eq_true rfl) (y_recv hE rfl hW.1) rfl rfl (Nat.le_of_ble_eq_true rfl) hW ⟨(Nat.le_of_ble_eq_true rfl), (Nat.le_of_ble_eq_true rfl)⟩ ?_
      refine y_set1 (w := nI (m_tn B k 5)) ((hv k hk 5 (by omega)).1) ?_
      refine y_if_le (tgt := 94) hE dX4_writeTurbine_77 (by decide) (fun c77 => ?_) (fun c77 => ?_)
      · -- t 77
        have n77 := Int32.not_lt.mpr c77
        have h5 : m_tn B k 5 = 0 := nIz c77 (by have := (hv k hk 5 (by omega)).2; omega)
        refine y_aload_n hE dX4_writeTurbine_94 rfl (lv_at hl 0 rfl) ?_
        refine y_iload_n hE dX4_writeTurbine_95 rfl (lv_at hl 1 rfl) ?_
        refine y_iconst (v := 3) hE dX4_writeTurbine_96 (by decide) ?_
        -- call t ['k', '3']
        refine y_roV (rest := []) hE cl_X4_57 (kX4_t k 3 (by omega) (by omega)) dX4_writeTurbine_97 hl (Nat.le_of_ble_eq_true rfl) (y_recv hE rfl hW.1) rfl rfl (Nat.le_of_ble_eq_true rfl) hW ⟨(Nat.le_of_ble_eq_true rfl), (Nat.le_of_ble_eq_true rfl)⟩ ?_
        refine y_set1 (w := nI (m_tn B k 3)) ((hv k hk 3 (by omega)).1) ?_
        refine y_iconst (v := 1) hE dX4_writeTurbine_100 (by decide) ?_
        refine y_icmp_ne (tgt := 110) hE dX4_writeTurbine_101 (by decide) (fun c101 => ?_) (fun c101 => ?_)
        · -- t 101
          have h3 : ¬ m_tn B k 3 = 1 := fun h => c101 ((nI_eq (b := 1) (by have := (hv k hk 3 (by omega)).2; omega) (by omega)).mpr h)
          refine y_aload_n hE dX4_writeTurbine_110 rfl (lv_at hl 0 rfl) ?_
          refine y_iload_n hE dX4_writeTurbine_111 rfl (lv_at hl 1 rfl) ?_
          refine y_iconst (v := 3) hE dX4_writeTurbine_112 (by decide) ?_
          -- call t ['k', '3']
          refine y_roV (rest := []) hE cl_X4_57 (kX4_t k 3 (by omega) (by omega)) dX4_writeTurbine_113 hl (Nat.le_of_ble_eq_true rfl) (y_recv hE rfl hW.1) rfl rfl (Nat.le_of_ble_eq_true rfl) hW ⟨(Nat.le_of_ble_eq_true rfl), (Nat.le_of_ble_eq_true rfl)⟩ ?_
          refine y_set1 (w := nI (m_tn B k 3)) ((hv k hk 3 (by omega)).1) ?_
          refine y_iconst (v := 2) hE dX4_writeTurbine_116 (by decide) ?_
          refine y_icmp_ne (tgt := 132) hE dX4_writeTurbine_117 (by decide) (fun c117 => ?_) (fun c117 => ?_)
          · -- t 117
            have h3b : ¬ m_tn B k 3 = 2 := fun h => c117 ((nI_eq (b := 2) (by have := (hv k hk 3 (by omega)).2; omega) (by omega)).mpr h)
            refine y_aload_n hE dX4_writeTurbine_132 rfl (lv_at hl 0 rfl) ?_
            refine t_get (v := .int (nI (((((dg2 k) ++ (nI 64 :: dg2 (m_tn B k 0))) ++ (nI 44 :: dg2 (m_tn B k 1))) ++ (nI 112 :: dg2 (m_tn B k 2))) ++ (nI 61 :: dg2 (m_on B n k))).length)) hE 9 (by decide) q1985 rfl hW rfl dX4_writeTurbine_133 ?_
            rw [hQ]
            exact y_iret hE dX4_writeTurbine_136 ⟨(by simp [hxi, w_r, w_g, w_L, m_tx, m_text, nI_lits, zb, hx, hxi, h5, h3, h3b]), (hW.cast (by simp [hxi, w_r, w_g, w_L, m_tx, m_text, nI_lits, zb, hx, hxi, h5, h3, h3b]) rfl rfl (by simp [hxi, w_r, w_g, w_L, m_tx, m_text, nI_lits, zb, hx, hxi, h5, h3, h3b]) rfl rfl)⟩ (Nat.le_of_ble_eq_true rfl) (Nat.le_of_ble_eq_true rfl)
          · -- f 117
            have h3b : m_tn B k 3 = 2 := (nI_eq (by have := (hv k hk 3 (by omega)).2; omega) (by omega)).mp (show _ = nI 2 from c117)
            refine y_aload_n hE dX4_writeTurbine_120 rfl (lv_at hl 0 rfl) ?_
            refine y_bipush (v := 115) hE dX4_writeTurbine_121 (by decide) ?_
            refine y_aload_n hE dX4_writeTurbine_123 rfl (lv_at hl 0 rfl) ?_
            refine y_iload_n hE dX4_writeTurbine_124 rfl (lv_at hl 1 rfl) ?_
            refine y_iconst (v := 4) hE dX4_writeTurbine_125 (by decide) ?_
            -- call t ['k', '4']
            refine y_roV (rest := [.int 115, .ref (m 0)]) hE cl_X4_57 (kX4_t k 4 (by omega) (by omega)) dX4_writeTurbine_126 hl (Nat.le_of_ble_eq_true rfl) (y_recv hE rfl hW.1) rfl rfl (Nat.le_of_ble_eq_true rfl) hW ⟨(Nat.le_of_ble_eq_true rfl), (Nat.le_of_ble_eq_true rfl)⟩ ?_
            refine y_set1 (w := nI (m_tn B k 4)) ((hv k hk 4 (by omega)).1) ?_
            -- call writesBehind ['115', '(m_tn B k 4)']
            refine y_muV (rest := []) hE cl_X4_197 (kX4_writesBehind ((((((dg2 k) ++ (nI 64 :: dg2 (m_tn B k 0))) ++ (nI 44 :: dg2 (m_tn B k 1))) ++ (nI 112 :: dg2 (m_tn B k 2))) ++ (nI 61 :: dg2 (m_on B n k))).length) 115 (m_tn B k 4) (by have := dg2_len k; have := dg2_len (m_tn B k 0); have := dg2_len (m_tn B k 1); have := dg2_len (m_tn B k 2); have := dg2_len (m_on B n k); (try simp only [List.length_append, List.length_cons, List.length_nil, dg1_len]); omega) (by omega) (by have := (hv k hk 4 (by omega)).2; omega)) dX4_writeTurbine_129 hl (Nat.le_of_ble_eq_true rfl) (y_recv hE rfl hW.1) rfl rfl (Nat.le_of_ble_eq_true rfl) hW (fun _ h => h) ⟨(Nat.le_of_ble_eq_true rfl), (Nat.le_of_ble_eq_true rfl)⟩ (fun vr H hW _ _ => ?_)
            have hW : tW z D m (lG (upd g 0 0) ((((((dg2 k) ++ (nI 64 :: dg2 (m_tn B k 0))) ++ (nI 44 :: dg2 (m_tn B k 1))) ++ (nI 112 :: dg2 (m_tn B k 2))) ++ (nI 61 :: dg2 (m_on B n k))).length + (nI 115 :: dg2 (m_tn B k 4)).length)) B Bs (tAp (tAp L 0 (((((dg2 k) ++ (nI 64 :: dg2 (m_tn B k 0))) ++ (nI 44 :: dg2 (m_tn B k 1))) ++ (nI 112 :: dg2 (m_tn B k 2))) ++ (nI 61 :: dg2 (m_on B n k)))) ((((((dg2 k) ++ (nI 64 :: dg2 (m_tn B k 0))) ++ (nI 44 :: dg2 (m_tn B k 1))) ++ (nI 112 :: dg2 (m_tn B k 2))) ++ (nI 61 :: dg2 (m_on B n k))).length) (nI 115 :: dg2 (m_tn B k 4))) I C H := hW
            refine y_st (st' := []) rfl ?_
            replace hW := hW.cast (lG_0 _ _ _) rfl rfl (tAp_0 _ _ _) rfl rfl
            have hW : tW z D m (lG (upd g 0 0) ((((((dg2 k) ++ (nI 64 :: dg2 (m_tn B k 0))) ++ (nI 44 :: dg2 (m_tn B k 1))) ++ (nI 112 :: dg2 (m_tn B k 2))) ++ (nI 61 :: dg2 (m_on B n k))) ++ (nI 115 :: dg2 (m_tn B k 4))).length) B Bs (tAp L 0 ((((((dg2 k) ++ (nI 64 :: dg2 (m_tn B k 0))) ++ (nI 44 :: dg2 (m_tn B k 1))) ++ (nI 112 :: dg2 (m_tn B k 2))) ++ (nI 61 :: dg2 (m_on B n k))) ++ (nI 115 :: dg2 (m_tn B k 4)))) I C H := hW
            refine y_aload_n hE dX4_writeTurbine_132 rfl (lv_at hl 0 rfl) ?_
            refine t_get (v := .int (nI ((((((dg2 k) ++ (nI 64 :: dg2 (m_tn B k 0))) ++ (nI 44 :: dg2 (m_tn B k 1))) ++ (nI 112 :: dg2 (m_tn B k 2))) ++ (nI 61 :: dg2 (m_on B n k))) ++ (nI 115 :: dg2 (m_tn B k 4))).length)) hE 9 (by decide) q1985 rfl hW rfl dX4_writeTurbine_133 ?_
            rw [hQ]
            exact y_iret hE dX4_writeTurbine_136 ⟨(by simp [hxi, w_r, w_g, w_L, m_tx, m_text, nI_lits, zb, hx, hxi, h5, h3, h3b]), (hW.cast (by simp [hxi, w_r, w_g, w_L, m_tx, m_text, nI_lits, zb, hx, hxi, h5, h3, h3b]) rfl rfl (by simp [hxi, w_r, w_g, w_L, m_tx, m_text, nI_lits, zb, hx, hxi, h5, h3, h3b]) rfl rfl)⟩ (Nat.le_of_ble_eq_true rfl) (Nat.le_of_ble_eq_true rfl)
        · -- f 101
          have h3 : m_tn B k 3 = 1 := (nI_eq (by have := (hv k hk 3 (by omega)).2; omega) (by omega)).mp (show _ = nI 1 from c101)
          refine y_aload_n hE dX4_writeTurbine_104 rfl (lv_at hl 0 rfl) ?_
          refine y_bipush (v := 120) hE dX4_writeTurbine_105 (by decide) ?_
          -- call writes ['120']
          refine y_muV (rest := []) hE cl_X4_194 (kX4_writes ((((((dg2 k) ++ (nI 64 :: dg2 (m_tn B k 0))) ++ (nI 44 :: dg2 (m_tn B k 1))) ++ (nI 112 :: dg2 (m_tn B k 2))) ++ (nI 61 :: dg2 (m_on B n k))).length) 120 (by have := dg2_len k; have := dg2_len (m_tn B k 0); have := dg2_len (m_tn B k 1); have := dg2_len (m_tn B k 2); have := dg2_len (m_on B n k); (try simp only [List.length_append, List.length_cons, List.length_nil, dg1_len]); omega) (by omega)) dX4_writeTurbine_107 hl (Nat.le_of_ble_eq_true rfl) (y_recv hE rfl hW.1) rfl rfl (Nat.le_of_ble_eq_true rfl) hW (fun _ h => h) ⟨(Nat.le_of_ble_eq_true rfl), (Nat.le_of_ble_eq_true rfl)⟩ (fun vr H hW _ _ => ?_)
          have hW : tW z D m (lG (upd g 0 0) ((((((dg2 k) ++ (nI 64 :: dg2 (m_tn B k 0))) ++ (nI 44 :: dg2 (m_tn B k 1))) ++ (nI 112 :: dg2 (m_tn B k 2))) ++ (nI 61 :: dg2 (m_on B n k))).length + ([nI 120]).length)) B Bs (tAp (tAp L 0 (((((dg2 k) ++ (nI 64 :: dg2 (m_tn B k 0))) ++ (nI 44 :: dg2 (m_tn B k 1))) ++ (nI 112 :: dg2 (m_tn B k 2))) ++ (nI 61 :: dg2 (m_on B n k)))) ((((((dg2 k) ++ (nI 64 :: dg2 (m_tn B k 0))) ++ (nI 44 :: dg2 (m_tn B k 1))) ++ (nI 112 :: dg2 (m_tn B k 2))) ++ (nI 61 :: dg2 (m_on B n k))).length) ([nI 120])) I C H := hW
          refine y_st (st' := []) rfl ?_
          replace hW := hW.cast (lG_0 _ _ _) rfl rfl (tAp_0 _ _ _) rfl rfl
          have hW : tW z D m (lG (upd g 0 0) ((((((dg2 k) ++ (nI 64 :: dg2 (m_tn B k 0))) ++ (nI 44 :: dg2 (m_tn B k 1))) ++ (nI 112 :: dg2 (m_tn B k 2))) ++ (nI 61 :: dg2 (m_on B n k))) ++ ([nI 120])).length) B Bs (tAp L 0 ((((((dg2 k) ++ (nI 64 :: dg2 (m_tn B k 0))) ++ (nI 44 :: dg2 (m_tn B k 1))) ++ (nI 112 :: dg2 (m_tn B k 2))) ++ (nI 61 :: dg2 (m_on B n k))) ++ ([nI 120]))) I C H := hW
          refine y_aload_n hE dX4_writeTurbine_110 rfl (lv_at hl 0 rfl) ?_
          refine y_iload_n hE dX4_writeTurbine_111 rfl (lv_at hl 1 rfl) ?_
          refine y_iconst (v := 3) hE dX4_writeTurbine_112 (by decide) ?_
          -- call t ['k', '3']
          refine y_roV (rest := []) hE cl_X4_57 (kX4_t k 3 (by omega) (by omega)) dX4_writeTurbine_113 hl (Nat.le_of_ble_eq_true rfl) (y_recv hE rfl hW.1) rfl rfl (Nat.le_of_ble_eq_true rfl) hW ⟨(Nat.le_of_ble_eq_true rfl), (Nat.le_of_ble_eq_true rfl)⟩ ?_
          refine y_set1 (w := nI (m_tn B k 3)) ((hv k hk 3 (by omega)).1) ?_
          refine y_iconst (v := 2) hE dX4_writeTurbine_116 (by decide) ?_
          refine y_icmp_ne (tgt := 132) hE dX4_writeTurbine_117 (by decide) (fun c117 => ?_) (fun c117 => ?_)
          · -- t 117
            have h3b : ¬ m_tn B k 3 = 2 := fun h => c117 ((nI_eq (b := 2) (by have := (hv k hk 3 (by omega)).2; omega) (by omega)).mpr h)
            refine y_aload_n hE dX4_writeTurbine_132 rfl (lv_at hl 0 rfl) ?_
            refine t_get (v := .int (nI ((((((dg2 k) ++ (nI 64 :: dg2 (m_tn B k 0))) ++ (nI 44 :: dg2 (m_tn B k 1))) ++ (nI 112 :: dg2 (m_tn B k 2))) ++ (nI 61 :: dg2 (m_on B n k))) ++ ([nI 120])).length)) hE 9 (by decide) q1985 rfl hW rfl dX4_writeTurbine_133 ?_
            rw [hQ]
            exact y_iret hE dX4_writeTurbine_136 ⟨(by simp [hxi, w_r, w_g, w_L, m_tx, m_text, nI_lits, zb, hx, hxi, h5, h3, h3b]), (hW.cast (by simp [hxi, w_r, w_g, w_L, m_tx, m_text, nI_lits, zb, hx, hxi, h5, h3, h3b]) rfl rfl (by simp [hxi, w_r, w_g, w_L, m_tx, m_text, nI_lits, zb, hx, hxi, h5, h3, h3b]) rfl rfl)⟩ (Nat.le_of_ble_eq_true rfl) (Nat.le_of_ble_eq_true rfl)
          · -- f 117
            have h3b : m_tn B k 3 = 2 := (nI_eq (by have := (hv k hk 3 (by omega)).2; omega) (by omega)).mp (show _ = nI 2 from c117)
            exact absurd (h3.symm.trans h3b) (by decide)
      · -- f 77
        have n77 := Int32.not_le.mp c77
        have h5 : 0 < m_tn B k 5 := nIp n77
        refine y_aload_n hE dX4_writeTurbine_80 rfl (lv_at hl 0 rfl) ?_
        refine y_bipush (v := 60) hE dX4_writeTurbine_81 (by decide) ?_
        refine y_aload_n hE dX4_writeTurbine_83 rfl (lv_at hl 0 rfl) ?_
        refine y_iload_n hE dX4_writeTurbine_84 rfl (lv_at hl 1 rfl) ?_
        refine y_iconst (v := 5) hE dX4_writeTurbine_85 (by decide) ?_
        -- call t ['k', '5']
        refine y_roV (rest := [.int 60, .ref (m 0)]) hE cl_X4_57 (kX4_t k 5 (by omega) (by omega)) dX4_writeTurbine_86 hl (Nat.le_of_ble_eq_true rfl) (y_recv hE rfl hW.1) rfl rfl (Nat.le_of_ble_eq_true rfl) hW ⟨(Nat.le_of_ble_eq_true rfl), (Nat.le_of_ble_eq_true rfl)⟩ ?_
        refine y_iconst (v := 1) hE dX4_writeTurbine_89 (by decide) ?_
        refine y_isub hE dX4_writeTurbine_90 ?_
        refine y_set1 (w := nI (m_tn B k 5 - 1)) (by rw [(hv k hk 5 (by omega)).1]; exact nI_sub (b := 1) h5 (by have := (hv k hk 5 (by omega)).2; omega)) ?_
        -- call writesBehind ['60', '(m_tn B k 5 - 1)']
        refine y_muV (rest := []) hE cl_X4_197 (kX4_writesBehind ((((((dg2 k) ++ (nI 64 :: dg2 (m_tn B k 0))) ++ (nI 44 :: dg2 (m_tn B k 1))) ++ (nI 112 :: dg2 (m_tn B k 2))) ++ (nI 61 :: dg2 (m_on B n k))).length) 60 (m_tn B k 5 - 1) (by have := dg2_len k; have := dg2_len (m_tn B k 0); have := dg2_len (m_tn B k 1); have := dg2_len (m_tn B k 2); have := dg2_len (m_on B n k); (try simp only [List.length_append, List.length_cons, List.length_nil, dg1_len]); omega) (by omega) (by have := (hv k hk 5 (by omega)).2; omega)) dX4_writeTurbine_91 hl (Nat.le_of_ble_eq_true rfl) (y_recv hE rfl hW.1) rfl rfl (Nat.le_of_ble_eq_true rfl) hW (fun _ h => h) ⟨(Nat.le_of_ble_eq_true rfl), (Nat.le_of_ble_eq_true rfl)⟩ (fun vr H hW _ _ => ?_)
        have hW : tW z D m (lG (upd g 0 0) ((((((dg2 k) ++ (nI 64 :: dg2 (m_tn B k 0))) ++ (nI 44 :: dg2 (m_tn B k 1))) ++ (nI 112 :: dg2 (m_tn B k 2))) ++ (nI 61 :: dg2 (m_on B n k))).length + (nI 60 :: dg2 (m_tn B k 5 - 1)).length)) B Bs (tAp (tAp L 0 (((((dg2 k) ++ (nI 64 :: dg2 (m_tn B k 0))) ++ (nI 44 :: dg2 (m_tn B k 1))) ++ (nI 112 :: dg2 (m_tn B k 2))) ++ (nI 61 :: dg2 (m_on B n k)))) ((((((dg2 k) ++ (nI 64 :: dg2 (m_tn B k 0))) ++ (nI 44 :: dg2 (m_tn B k 1))) ++ (nI 112 :: dg2 (m_tn B k 2))) ++ (nI 61 :: dg2 (m_on B n k))).length) (nI 60 :: dg2 (m_tn B k 5 - 1))) I C H := hW
        refine y_st (st' := []) rfl ?_
        replace hW := hW.cast (lG_0 _ _ _) rfl rfl (tAp_0 _ _ _) rfl rfl
        have hW : tW z D m (lG (upd g 0 0) ((((((dg2 k) ++ (nI 64 :: dg2 (m_tn B k 0))) ++ (nI 44 :: dg2 (m_tn B k 1))) ++ (nI 112 :: dg2 (m_tn B k 2))) ++ (nI 61 :: dg2 (m_on B n k))) ++ (nI 60 :: dg2 (m_tn B k 5 - 1))).length) B Bs (tAp L 0 ((((((dg2 k) ++ (nI 64 :: dg2 (m_tn B k 0))) ++ (nI 44 :: dg2 (m_tn B k 1))) ++ (nI 112 :: dg2 (m_tn B k 2))) ++ (nI 61 :: dg2 (m_on B n k))) ++ (nI 60 :: dg2 (m_tn B k 5 - 1)))) I C H := hW
        refine y_aload_n hE dX4_writeTurbine_94 rfl (lv_at hl 0 rfl) ?_
        refine y_iload_n hE dX4_writeTurbine_95 rfl (lv_at hl 1 rfl) ?_
        refine y_iconst (v := 3) hE dX4_writeTurbine_96 (by decide) ?_
        -- call t ['k', '3']
        refine y_roV (rest := []) hE cl_X4_57 (kX4_t k 3 (by omega) (by omega)) dX4_writeTurbine_97 hl (Nat.le_of_ble_eq_true rfl) (y_recv hE rfl hW.1) rfl rfl (Nat.le_of_ble_eq_true rfl) hW ⟨(Nat.le_of_ble_eq_true rfl), (Nat.le_of_ble_eq_true rfl)⟩ ?_
        refine y_set1 (w := nI (m_tn B k 3)) ((hv k hk 3 (by omega)).1) ?_
        refine y_iconst (v := 1) hE dX4_writeTurbine_100 (by decide) ?_
        refine y_icmp_ne (tgt := 110) hE dX4_writeTurbine_101 (by decide) (fun c101 => ?_) (fun c101 => ?_)
        · -- t 101
          have h3 : ¬ m_tn B k 3 = 1 := fun h => c101 ((nI_eq (b := 1) (by have := (hv k hk 3 (by omega)).2; omega) (by omega)).mpr h)
          refine y_aload_n hE dX4_writeTurbine_110 rfl (lv_at hl 0 rfl) ?_
          refine y_iload_n hE dX4_writeTurbine_111 rfl (lv_at hl 1 rfl) ?_
          refine y_iconst (v := 3) hE dX4_writeTurbine_112 (by decide) ?_
          -- call t ['k', '3']
          refine y_roV (rest := []) hE cl_X4_57 (kX4_t k 3 (by omega) (by omega)) dX4_writeTurbine_113 hl (Nat.le_of_ble_eq_true rfl) (y_recv hE rfl hW.1) rfl rfl (Nat.le_of_ble_eq_true rfl) hW ⟨(Nat.le_of_ble_eq_true rfl), (Nat.le_of_ble_eq_true rfl)⟩ ?_
          refine y_set1 (w := nI (m_tn B k 3)) ((hv k hk 3 (by omega)).1) ?_
          refine y_iconst (v := 2) hE dX4_writeTurbine_116 (by decide) ?_
          refine y_icmp_ne (tgt := 132) hE dX4_writeTurbine_117 (by decide) (fun c117 => ?_) (fun c117 => ?_)
          · -- t 117
            have h3b : ¬ m_tn B k 3 = 2 := fun h => c117 ((nI_eq (b := 2) (by have := (hv k hk 3 (by omega)).2; omega) (by omega)).mpr h)
            refine y_aload_n hE dX4_writeTurbine_132 rfl (lv_at hl 0 rfl) ?_
            refine t_get (v := .int (nI ((((((dg2 k) ++ (nI 64 :: dg2 (m_tn B k 0))) ++ (nI 44 :: dg2 (m_tn B k 1))) ++ (nI 112 :: dg2 (m_tn B k 2))) ++ (nI 61 :: dg2 (m_on B n k))) ++ (nI 60 :: dg2 (m_tn B k 5 - 1))).length)) hE 9 (by decide) q1985 rfl hW rfl dX4_writeTurbine_133 ?_
            rw [hQ]
            exact y_iret hE dX4_writeTurbine_136 ⟨(by simp [hxi, w_r, w_g, w_L, m_tx, m_text, nI_lits, zb, hx, hxi, h5, h3, h3b]), (hW.cast (by simp [hxi, w_r, w_g, w_L, m_tx, m_text, nI_lits, zb, hx, hxi, h5, h3, h3b]) rfl rfl (by simp [hxi, w_r, w_g, w_L, m_tx, m_text, nI_lits, zb, hx, hxi, h5, h3, h3b]) rfl rfl)⟩ (Nat.le_of_ble_eq_true rfl) (Nat.le_of_ble_eq_true rfl)
          · -- f 117
            have h3b : m_tn B k 3 = 2 := (nI_eq (by have := (hv k hk 3 (by omega)).2; omega) (by omega)).mp (show _ = nI 2 from c117)
            refine y_aload_n hE dX4_writeTurbine_120 rfl (lv_at hl 0 rfl) ?_
            refine y_bipush (v := 115) hE dX4_writeTurbine_121 (by decide) ?_
            refine y_aload_n hE dX4_writeTurbine_123 rfl (lv_at hl 0 rfl) ?_
            refine y_iload_n hE dX4_writeTurbine_124 rfl (lv_at hl 1 rfl) ?_
            refine y_iconst (v := 4) hE dX4_writeTurbine_125 (by decide) ?_
            -- call t ['k', '4']
            refine y_roV (rest := [.int 115, .ref (m 0)]) hE cl_X4_57 (kX4_t k 4 (by omega) (by omega)) dX4_writeTurbine_126 hl (Nat.le_of_ble_eq_true rfl) (y_recv hE rfl hW.1) rfl rfl (Nat.le_of_ble_eq_true rfl) hW ⟨(Nat.le_of_ble_eq_true rfl), (Nat.le_of_ble_eq_true rfl)⟩ ?_
            refine y_set1 (w := nI (m_tn B k 4)) ((hv k hk 4 (by omega)).1) ?_
            -- call writesBehind ['115', '(m_tn B k 4)']
            refine y_muV (rest := []) hE cl_X4_197 (kX4_writesBehind (((((((dg2 k) ++ (nI 64 :: dg2 (m_tn B k 0))) ++ (nI 44 :: dg2 (m_tn B k 1))) ++ (nI 112 :: dg2 (m_tn B k 2))) ++ (nI 61 :: dg2 (m_on B n k))) ++ (nI 60 :: dg2 (m_tn B k 5 - 1))).length) 115 (m_tn B k 4) (by have := dg2_len k; have := dg2_len (m_tn B k 0); have := dg2_len (m_tn B k 1); have := dg2_len (m_tn B k 2); have := dg2_len (m_on B n k); have := dg2_len (m_tn B k 5 - 1); (try simp only [List.length_append, List.length_cons, List.length_nil, dg1_len]); omega) (by omega) (by have := (hv k hk 4 (by omega)).2; omega)) dX4_writeTurbine_129 hl (Nat.le_of_ble_eq_true rfl) (y_recv hE rfl hW.1) rfl rfl (Nat.le_of_ble_eq_true rfl) hW (fun _ h => h) ⟨(Nat.le_of_ble_eq_true rfl), (Nat.le_of_ble_eq_true rfl)⟩ (fun vr H hW _ _ => ?_)
            have hW : tW z D m (lG (upd g 0 0) (((((((dg2 k) ++ (nI 64 :: dg2 (m_tn B k 0))) ++ (nI 44 :: dg2 (m_tn B k 1))) ++ (nI 112 :: dg2 (m_tn B k 2))) ++ (nI 61 :: dg2 (m_on B n k))) ++ (nI 60 :: dg2 (m_tn B k 5 - 1))).length + (nI 115 :: dg2 (m_tn B k 4)).length)) B Bs (tAp (tAp L 0 ((((((dg2 k) ++ (nI 64 :: dg2 (m_tn B k 0))) ++ (nI 44 :: dg2 (m_tn B k 1))) ++ (nI 112 :: dg2 (m_tn B k 2))) ++ (nI 61 :: dg2 (m_on B n k))) ++ (nI 60 :: dg2 (m_tn B k 5 - 1)))) (((((((dg2 k) ++ (nI 64 :: dg2 (m_tn B k 0))) ++ (nI 44 :: dg2 (m_tn B k 1))) ++ (nI 112 :: dg2 (m_tn B k 2))) ++ (nI 61 :: dg2 (m_on B n k))) ++ (nI 60 :: dg2 (m_tn B k 5 - 1))).length) (nI 115 :: dg2 (m_tn B k 4))) I C H := hW
            refine y_st (st' := []) rfl ?_
            replace hW := hW.cast (lG_0 _ _ _) rfl rfl (tAp_0 _ _ _) rfl rfl
            have hW : tW z D m (lG (upd g 0 0) (((((((dg2 k) ++ (nI 64 :: dg2 (m_tn B k 0))) ++ (nI 44 :: dg2 (m_tn B k 1))) ++ (nI 112 :: dg2 (m_tn B k 2))) ++ (nI 61 :: dg2 (m_on B n k))) ++ (nI 60 :: dg2 (m_tn B k 5 - 1))) ++ (nI 115 :: dg2 (m_tn B k 4))).length) B Bs (tAp L 0 (((((((dg2 k) ++ (nI 64 :: dg2 (m_tn B k 0))) ++ (nI 44 :: dg2 (m_tn B k 1))) ++ (nI 112 :: dg2 (m_tn B k 2))) ++ (nI 61 :: dg2 (m_on B n k))) ++ (nI 60 :: dg2 (m_tn B k 5 - 1))) ++ (nI 115 :: dg2 (m_tn B k 4)))) I C H := hW
            refine y_aload_n hE dX4_writeTurbine_132 rfl (lv_at hl 0 rfl) ?_
            refine t_get (v := .int (nI (((((((dg2 k) ++ (nI 64 :: dg2 (m_tn B k 0))) ++ (nI 44 :: dg2 (m_tn B k 1))) ++ (nI 112 :: dg2 (m_tn B k 2))) ++ (nI 61 :: dg2 (m_on B n k))) ++ (nI 60 :: dg2 (m_tn B k 5 - 1))) ++ (nI 115 :: dg2 (m_tn B k 4))).length)) hE 9 (by decide) q1985 rfl hW rfl dX4_writeTurbine_133 ?_
            rw [hQ]
            exact y_iret hE dX4_writeTurbine_136 ⟨(by simp [hxi, w_r, w_g, w_L, m_tx, m_text, nI_lits, zb, hx, hxi, h5, h3, h3b]), (hW.cast (by simp [hxi, w_r, w_g, w_L, m_tx, m_text, nI_lits, zb, hx, hxi, h5, h3, h3b]) rfl rfl (by simp [hxi, w_r, w_g, w_L, m_tx, m_text, nI_lits, zb, hx, hxi, h5, h3, h3b]) rfl rfl)⟩ (Nat.le_of_ble_eq_true rfl) (Nat.le_of_ble_eq_true rfl)
        · -- f 101
          have h3 : m_tn B k 3 = 1 := (nI_eq (by have := (hv k hk 3 (by omega)).2; omega) (by omega)).mp (show _ = nI 1 from c101)
          refine y_aload_n hE dX4_writeTurbine_104 rfl (lv_at hl 0 rfl) ?_
          refine y_bipush (v := 120) hE dX4_writeTurbine_105 (by decide) ?_
          -- call writes ['120']
          refine y_muV (rest := []) hE cl_X4_194 (kX4_writes (((((((dg2 k) ++ (nI 64 :: dg2 (m_tn B k 0))) ++ (nI 44 :: dg2 (m_tn B k 1))) ++ (nI 112 :: dg2 (m_tn B k 2))) ++ (nI 61 :: dg2 (m_on B n k))) ++ (nI 60 :: dg2 (m_tn B k 5 - 1))).length) 120 (by have := dg2_len k; have := dg2_len (m_tn B k 0); have := dg2_len (m_tn B k 1); have := dg2_len (m_tn B k 2); have := dg2_len (m_on B n k); have := dg2_len (m_tn B k 5 - 1); (try simp only [List.length_append, List.length_cons, List.length_nil, dg1_len]); omega) (by omega)) dX4_writeTurbine_107 hl (Nat.le_of_ble_eq_true rfl) (y_recv hE rfl hW.1) rfl rfl (Nat.le_of_ble_eq_true rfl) hW (fun _ h => h) ⟨(Nat.le_of_ble_eq_true rfl), (Nat.le_of_ble_eq_true rfl)⟩ (fun vr H hW _ _ => ?_)
          have hW : tW z D m (lG (upd g 0 0) (((((((dg2 k) ++ (nI 64 :: dg2 (m_tn B k 0))) ++ (nI 44 :: dg2 (m_tn B k 1))) ++ (nI 112 :: dg2 (m_tn B k 2))) ++ (nI 61 :: dg2 (m_on B n k))) ++ (nI 60 :: dg2 (m_tn B k 5 - 1))).length + ([nI 120]).length)) B Bs (tAp (tAp L 0 ((((((dg2 k) ++ (nI 64 :: dg2 (m_tn B k 0))) ++ (nI 44 :: dg2 (m_tn B k 1))) ++ (nI 112 :: dg2 (m_tn B k 2))) ++ (nI 61 :: dg2 (m_on B n k))) ++ (nI 60 :: dg2 (m_tn B k 5 - 1)))) (((((((dg2 k) ++ (nI 64 :: dg2 (m_tn B k 0))) ++ (nI 44 :: dg2 (m_tn B k 1))) ++ (nI 112 :: dg2 (m_tn B k 2))) ++ (nI 61 :: dg2 (m_on B n k))) ++ (nI 60 :: dg2 (m_tn B k 5 - 1))).length) ([nI 120])) I C H := hW
          refine y_st (st' := []) rfl ?_
          replace hW := hW.cast (lG_0 _ _ _) rfl rfl (tAp_0 _ _ _) rfl rfl
          have hW : tW z D m (lG (upd g 0 0) (((((((dg2 k) ++ (nI 64 :: dg2 (m_tn B k 0))) ++ (nI 44 :: dg2 (m_tn B k 1))) ++ (nI 112 :: dg2 (m_tn B k 2))) ++ (nI 61 :: dg2 (m_on B n k))) ++ (nI 60 :: dg2 (m_tn B k 5 - 1))) ++ ([nI 120])).length) B Bs (tAp L 0 (((((((dg2 k) ++ (nI 64 :: dg2 (m_tn B k 0))) ++ (nI 44 :: dg2 (m_tn B k 1))) ++ (nI 112 :: dg2 (m_tn B k 2))) ++ (nI 61 :: dg2 (m_on B n k))) ++ (nI 60 :: dg2 (m_tn B k 5 - 1))) ++ ([nI 120]))) I C H := hW
          refine y_aload_n hE dX4_writeTurbine_110 rfl (lv_at hl 0 rfl) ?_
          refine y_iload_n hE dX4_writeTurbine_111 rfl (lv_at hl 1 rfl) ?_
          refine y_iconst (v := 3) hE dX4_writeTurbine_112 (by decide) ?_
          -- call t ['k', '3']
          refine y_roV (rest := []) hE cl_X4_57 (kX4_t k 3 (by omega) (by omega)) dX4_writeTurbine_113 hl (Nat.le_of_ble_eq_true rfl) (y_recv hE rfl hW.1) rfl rfl (Nat.le_of_ble_eq_true rfl) hW ⟨(Nat.le_of_ble_eq_true rfl), (Nat.le_of_ble_eq_true rfl)⟩ ?_
          refine y_set1 (w := nI (m_tn B k 3)) ((hv k hk 3 (by omega)).1) ?_
          refine y_iconst (v := 2) hE dX4_writeTurbine_116 (by decide) ?_
          refine y_icmp_ne (tgt := 132) hE dX4_writeTurbine_117 (by decide) (fun c117 => ?_) (fun c117 => ?_)
          · -- t 117
            have h3b : ¬ m_tn B k 3 = 2 := fun h => c117 ((nI_eq (b := 2) (by have := (hv k hk 3 (by omega)).2; omega) (by omega)).mpr h)
            refine y_aload_n hE dX4_writeTurbine_132 rfl (lv_at hl 0 rfl) ?_
            refine t_get (v := .int (nI (((((((dg2 k) ++ (nI 64 :: dg2 (m_tn B k 0))) ++ (nI 44 :: dg2 (m_tn B k 1))) ++ (nI 112 :: dg2 (m_tn B k 2))) ++ (nI 61 :: dg2 (m_on B n k))) ++ (nI 60 :: dg2 (m_tn B k 5 - 1))) ++ ([nI 120])).length)) hE 9 (by decide) q1985 rfl hW rfl dX4_writeTurbine_133 ?_
            rw [hQ]
            exact y_iret hE dX4_writeTurbine_136 ⟨(by simp [hxi, w_r, w_g, w_L, m_tx, m_text, nI_lits, zb, hx, hxi, h5, h3, h3b]), (hW.cast (by simp [hxi, w_r, w_g, w_L, m_tx, m_text, nI_lits, zb, hx, hxi, h5, h3, h3b]) rfl rfl (by simp [hxi, w_r, w_g, w_L, m_tx, m_text, nI_lits, zb, hx, hxi, h5, h3, h3b]) rfl rfl)⟩ (Nat.le_of_ble_eq_true rfl) (Nat.le_of_ble_eq_true rfl)
          · -- f 117
            have h3b : m_tn B k 3 = 2 := (nI_eq (by have := (hv k hk 3 (by omega)).2; omega) (by omega)).mp (show _ = nI 2 from c117)
            exact absurd (h3.symm.trans h3b) (by decide)
    · -- f 9
      rw [zb_0] at c9
      exact absurd c9 (by simp [hx])


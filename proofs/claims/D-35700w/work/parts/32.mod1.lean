/-! THE REFERENCE: its methods, by contract (printed by gen/model.py) -/
set_option maxRecDepth 100000
set_option maxHeartbeats 4000000 in
theorem mm_greater (l : Launch) (Γ : Gm) (a b : Int32) (μ : Mem) : MetV l Γ yX5_greater cX5_greater 2 (some .int) 1 0 0 [.int a, .int b] μ (PI (fun r9 μ1 => r9 = (gt2 a b) ∧ μ = μ1)) := by
  refine MetV.of (by decide +kernel) rfl ?_
  intro X sz hl hr hnm O
  subst hl
  show V X Γ _ 2 _ 0 0 μ 0 [(0, .int a), (1, .int b)] []
  refine v_iload_n (pc := 0) O dX5_greater_0 rfl ?_
  refine v_iload_n (pc := 1) O dX5_greater_1 rfl ?_
  refine v_icmp_le (pc := 2) (tgt := 9) O dX5_greater_2 (by decide) (fun c_2 => ?_) (fun c_2 => ?_)
  · refine v_iload_n (pc := 9) O dX5_greater_9 rfl ?_
    exact v_iret (pc := 10) O hr (Nat.le_refl _) (Nat.le_refl _) dX5_greater_10 ⟨_, rfl, ⟨by simp [gt2, c_2], rfl⟩⟩
  · refine v_iload_n (pc := 5) O dX5_greater_5 rfl ?_
    refine v_goto (pc := 6) O (tgt := 10) dX5_greater_6 (by decide) ?_
    exact v_iret (pc := 10) O hr (Nat.le_refl _) (Nat.le_refl _) dX5_greater_10 ⟨_, rfl, ⟨by simp [gt2, c_2], rfl⟩⟩
set_option maxHeartbeats 4000000 in
theorem mm_in (l : Launch) (Γ : Gm) (v lo hi : Int32) (μ : Mem) : MetV l Γ yX5_in cX5_in 3 (some .boolean) 1 0 0 [.int v, .int lo, .int hi] μ (PI (fun r9 μ1 => r9 = (b2i (inB v lo hi)) ∧ μ = μ1)) := by
  refine MetV.of (by decide +kernel) rfl ?_
  intro X sz hl hr hnm O
  subst hl
  show V X Γ _ 3 _ 0 0 μ 0 [(0, .int v), (1, .int lo), (2, .int hi)] []
  refine v_iload_n (pc := 0) O dX5_in_0 rfl ?_
  refine v_iload_n (pc := 1) O dX5_in_1 rfl ?_
  refine v_icmp_lt (pc := 2) (tgt := 14) O dX5_in_2 (by decide) (fun c_2 => ?_) (fun c_2 => ?_)
  · refine v_iconst (pc := 14) O (x := 0) dX5_in_14 (by decide) ?_
    exact v_zret (pc := 15) O hr (Nat.le_refl _) (Nat.le_refl _) dX5_in_15 rfl ⟨_, rfl, ⟨by simp [inB, b2i, c_2], rfl⟩⟩
  · refine v_iload_n (pc := 5) O dX5_in_5 rfl ?_
    refine v_iload_n (pc := 6) O dX5_in_6 rfl ?_
    refine v_icmp_gt (pc := 7) (tgt := 14) O dX5_in_7 (by decide) (fun c_7 => ?_) (fun c_7 => ?_)
    · refine v_iconst (pc := 14) O (x := 0) dX5_in_14 (by decide) ?_
      exact v_zret (pc := 15) O hr (Nat.le_refl _) (Nat.le_refl _) dX5_in_15 rfl ⟨_, rfl, ⟨by simp [inB, b2i, c_2, c_7], rfl⟩⟩
    · refine v_iconst (pc := 10) O (x := 1) dX5_in_10 (by decide) ?_
      refine v_goto (pc := 11) O (tgt := 15) dX5_in_11 (by decide) ?_
      exact v_zret (pc := 15) O hr (Nat.le_refl _) (Nat.le_refl _) dX5_in_15 rfl ⟨_, rfl, ⟨by simp [inB, b2i, c_2, c_7], rfl⟩⟩
set_option maxHeartbeats 4000000 in
theorem mm_thrown (l : Launch) (Γ : Gm) (ad : Nat → Nat)  {s : St} {μ0 : Mem}  (hR : RepM Γ ad s μ0) : MetV l Γ yX5_thrown cX5_thrown 1 (some .int) 1 0 0 [.ref (ad 0)] μ0 (PI (fun r9 μ1 => r9 = (s 31 0) ∧ RepM Γ ad s μ1)) := by
  refine MetV.of (by decide +kernel) rfl ?_
  intro X sz hl hr hnm O
  subst hl
  show V X Γ _ 1 _ 0 0 μ0 0 [(0, .ref (ad 0))] []
  refine v_aload_n (pc := 0) O dX5_thrown_0 rfl ?_
  refine vm_geti (pc := 1) O hR 31 rfl q2074 (x := (s 31 0)) rfl rfl dX5_thrown_1 ?_
  exact v_iret (pc := 4) O hr (Nat.le_refl _) (Nat.le_refl _) dX5_thrown_4 ⟨_, rfl, ⟨by simp [], by simpa [] using hR⟩⟩
set_option maxHeartbeats 4000000 in
theorem mm_asks (l : Launch) (Γ : Gm) (ad : Nat → Nat) (x : Int32) {s : St} {μ0 : Mem} (h_x : ir x 4) (hR : RepM Γ ad s μ0) : MetV l Γ yX5_asks cX5_asks 2 (some .int) 2 0 0 [.ref (ad 0), .int x] μ0 (PI (fun r9 μ1 => r9 = (asksF s x) ∧ RepM Γ ad (asksS s x) μ1)) := by
  refine MetV.of (by decide +kernel) rfl ?_
  intro X sz hl hr hnm O
  subst hl
  show V X Γ _ 2 _ 0 0 μ0 0 [(0, .ref (ad 0)), (1, .int x)] []
  refine v_aload_n (pc := 0) O dX5_asks_0 rfl ?_
  refine vm_get (pc := 1) O hR 2 rfl q2045 rfl dX5_asks_1 ?_
  refine v_iload_n (pc := 4) O dX5_asks_4 rfl ?_
  refine v_bipush (pc := 5) O (x := 10) dX5_asks_5 (by decide) ?_
  refine v_aload_n (pc := 7) O dX5_asks_7 rfl ?_
  refine vm_geti (pc := 8) O hR 0 rfl q2043 (x := (s 0 0)) rfl rfl dX5_asks_8 ?_
  refine v_aload_n (pc := 11) O dX5_asks_11 rfl ?_
  refine vm_get (pc := 12) O hR 1 rfl q2044 rfl dX5_asks_12 ?_
  refine v_iload_n (pc := 15) O dX5_asks_15 rfl ?_
  refine vm_iald (pc := 16) O hR 1 rfl rfl h_x (x := (s 1 x)) rfl dX5_asks_16 ?_
  refine v_iadd (pc := 17) O dX5_asks_17 ?_
  refine v_imul (pc := 18) O dX5_asks_18 ?_
  refine v_aload_n (pc := 19) O dX5_asks_19 rfl ?_
  refine vm_get (pc := 20) O hR 2 rfl q2045 rfl dX5_asks_20 ?_
  refine v_iload_n (pc := 23) O dX5_asks_23 rfl ?_
  refine vm_iald (pc := 24) O hR 2 rfl rfl h_x (x := (s 2 x)) rfl dX5_asks_24 ?_
  refine v_iconst (pc := 25) O (x := 1) dX5_asks_25 (by decide) ?_
  refine v_iadd (pc := 26) O dX5_asks_26 ?_
  refine v_callSi0 (pc := 27) (nA := 2) O (mm_greater (xL X) Γ (10 * ((s 0 0) + (s 1 x))) ((s 2 x) + 1) _) q2164 q2165 q71 q2166 (by decide +kernel) rfl rfl rfl rfl (Nat.le_of_ble_eq_true rfl) (Nat.le_refl _) (Nat.le_refl _) dX5_asks_27 (fun x μ1 h => ?_)
  obtain ⟨rfl, rfl⟩ := h
  refine vm_iast (pc := 30) O hR 2 rfl rfl h_x dX5_asks_30 (fun μ hR => ?_)
  refine v_aload_n (pc := 31) O dX5_asks_31 rfl ?_
  refine vm_get (pc := 32) O hR 2 rfl q2045 rfl dX5_asks_32 ?_
  refine v_iload_n (pc := 35) O dX5_asks_35 rfl ?_
  refine vm_iald (pc := 36) O hR 2 rfl rfl h_x (x := (gt2 (10 * ((s 0 0) + (s 1 x))) ((s 2 x) + 1))) sset_eq dX5_asks_36 ?_
  exact v_iret (pc := 37) O hr (Nat.le_refl _) (Nat.le_refl _) dX5_asks_37 ⟨_, rfl, ⟨by simp [asksF, asksS], by simpa [asksF, asksS] using hR⟩⟩
set_option maxHeartbeats 4000000 in
theorem mm_closedNow (l : Launch) (Γ : Gm) (ad : Nat → Nat)  {s : St} {μ0 : Mem}  (hR : RepM Γ ad s μ0) : MetV l Γ yX5_closedNow cX5_closedNow 1 (some .int) 2 0 0 [.ref (ad 0)] μ0 (PI (fun r9 μ1 => r9 = (closedF s) ∧ RepM Γ ad s μ1)) := by
  refine MetV.of (by decide +kernel) rfl ?_
  intro X sz hl hr hnm O
  subst hl
  show V X Γ _ 1 _ 0 0 μ0 0 [(0, .ref (ad 0))] []
  refine v_iconst (pc := 0) O (x := 0) dX5_closedNow_0 (by decide) ?_
  refine v_bipush (pc := 1) O (x := 10) dX5_closedNow_1 (by decide) ?_
  refine v_aload_n (pc := 3) O dX5_closedNow_3 rfl ?_
  refine vm_geti (pc := 4) O hR 0 rfl q2043 (x := (s 0 0)) rfl rfl dX5_closedNow_4 ?_
  refine v_bipush (pc := 7) O (x := 15) dX5_closedNow_7 (by decide) ?_
  refine v_isub (pc := 9) O dX5_closedNow_9 ?_
  refine v_imul (pc := 10) O dX5_closedNow_10 ?_
  refine v_callSi0 (pc := 11) (nA := 2) O (mm_greater (xL X) Γ 0 (10 * ((s 0 0) - 15)) _) q2164 q2165 q71 q2166 (by decide +kernel) rfl rfl rfl rfl (Nat.le_of_ble_eq_true rfl) (Nat.le_refl _) (Nat.le_refl _) dX5_closedNow_11 (fun x μ1 h => ?_)
  obtain ⟨rfl, rfl⟩ := h
  exact v_iret (pc := 14) O hr (Nat.le_refl _) (Nat.le_refl _) dX5_closedNow_14 ⟨_, rfl, ⟨by simp [closedF], by simpa [closedF] using hR⟩⟩
set_option maxHeartbeats 4000000 in
theorem mm_closed (l : Launch) (Γ : Gm) (ad : Nat → Nat)  {s : St} {μ0 : Mem}  (hR : RepM Γ ad s μ0) : MetV l Γ yX5_closed cX5_closed 1 (some .int) 3 0 0 [.ref (ad 0)] μ0 (PI (fun r9 μ1 => r9 = (closedF s) ∧ RepM Γ ad (sset s 31 0 0) μ1)) := by
  refine MetV.of (by decide +kernel) rfl ?_
  intro X sz hl hr hnm O
  subst hl
  show V X Γ _ 1 _ 0 0 μ0 0 [(0, .ref (ad 0))] []
  refine v_aload_n (pc := 0) O dX5_closed_0 rfl ?_
  refine v_iconst (pc := 1) O (x := 0) dX5_closed_1 (by decide) ?_
  refine vm_put (pc := 2) O hR 31 (by decide) q2074 dX5_closed_2 (fun μ hR => ?_)
  refine v_aload_n (pc := 5) O dX5_closed_5 rfl ?_
  refine v_callVi0 (pc := 6) (nA := 0) O (mm_closedNow (xL X) Γ ad hR) hR.1 rfl q2171 q2173 qs22 q71 q2174 (by decide +kernel) rfl rfl rfl rfl (Nat.le_of_ble_eq_true rfl) (Nat.le_refl _) (Nat.le_refl _) dX5_closed_6 (fun x μ h => ?_)
  obtain ⟨hx, hR⟩ := h
  rw [closed_oth (by decide)] at hx
  subst hx
  exact v_iret (pc := 9) O hr (Nat.le_refl _) (Nat.le_refl _) dX5_closed_9 ⟨_, rfl, ⟨by simp [closedF, sset_f], by simpa [closedF, sset_f] using hR⟩⟩
theorem rng_step {σ : St} {key r : Int32} {j : Nat} (hj : j ≤ 31) : rngGo σ key (32 - j) r = if r + 1 < σ 4 0 ∧ σ 5 (r + 1) ≤ key then rngGo σ key (32 - (j + 1)) (r + 1) else r := by
  rw [show 32 - j = (32 - (j + 1)) + 1 by omega]
  exact rngGo_s
theorem rng_lt {σ : St} {j : Nat} (h31 : j ≤ 31) (h : σ 4 0 ≤ 32) (c : ¬ σ 4 0 ≤ nI j + 1) : j + 1 ≤ 31 := by
  rw [nI_1, i_le, nI_toInt (by omega)] at c
  rw [i_le] at h
  have e : (32 : Int32).toInt = 32 := by decide
  omega
theorem i_nle {a b : Int32} (h : ¬ a ≤ b) : b < a := by
  rw [i_le] at h; rw [i_lt]; omega
theorem i_nlt {a b : Int32} (h : ¬ a < b) : b ≤ a := by
  rw [i_lt] at h; rw [i_le]; omega
set_option maxHeartbeats 4000000 in
theorem mm_rangeOf (l : Launch) (Γ : Gm) (ad : Nat → Nat) (key : Int32) {s : St} {μ0 : Mem} {B : Nat} (hW : WfM B s) (hR : RepM Γ ad s μ0) : MetV l Γ yX5_rangeOf cX5_rangeOf 3 (some .int) 1 0 0 [.ref (ad 0), .int key] μ0 (PI (fun r9 μ1 => r9 = (rangeOfF s key) ∧ RepM Γ ad s μ1)) := by
  refine MetV.of (by decide +kernel) rfl ?_
  intro X sz hl hr hnm O
  subst hl
  show V X Γ _ 3 _ 0 0 μ0 0 [(0, .ref (ad 0)), (1, .int key)] []
  refine v_iconst (pc := 0) O (x := 0) dX5_rangeOf_0 (by decide) ?_
  refine v_istore_n (pc := 1) (lv' := [(2, .int 0), (0, .ref (ad 0)), (1, .int key)]) O dX5_rangeOf_1 rfl rfl ?_
  have L2 : ∀ (d2 j2 : Nat) (μ : Mem), 32 < d2 + j2 → j2 ≤ 32 → rangeOfF s key = rngGo s key (32 - j2) (nI j2) → j2 ≤ 31 → RepM Γ ad s μ → V X Γ (gA μ0 sz) 3 (QV X Γ μ0 sz (PI (fun r9 μ1 => r9 = (rangeOfF s key) ∧ RepM Γ ad s μ1)) 0 0) 0 0 μ 2 [(2, .int (nI j2)), (0, .ref (ad 0)), (1, .int key)] [] := by
    intro d2
    induction d2 with
    | zero => intro j2 μ h1 h2; exact absurd h1 (by omega)
    | succ d2 ih2 =>
      intro j2 μ hd hj2 he2 h31 hR
      refine v_iload_n (pc := 2) O dX5_rangeOf_2 rfl ?_
      refine v_iconst (pc := 3) O (x := 1) dX5_rangeOf_3 (by decide) ?_
      refine v_iadd (pc := 4) O dX5_rangeOf_4 ?_
      refine v_aload_n (pc := 5) O dX5_rangeOf_5 rfl ?_
      refine vm_geti (pc := 6) O hR 4 rfl q2047 (x := (s 4 0)) rfl rfl dX5_rangeOf_6 ?_
      refine v_icmp_ge (pc := 9) (tgt := 30) O dX5_rangeOf_9 (by decide) (fun c_9 => ?_) (fun c_9 => ?_)
      · refine v_iload_n (pc := 30) O dX5_rangeOf_30 rfl ?_
        exact v_iret (pc := 31) O hr (Nat.le_refl _) (Nat.le_refl _) dX5_rangeOf_31 ⟨_, rfl, ⟨by rw [he2, rng_step h31, if_neg (fun h => absurd c_9 (by rw [i_le]; have := h.1; rw [i_lt] at this; omega))], hR⟩⟩
      · refine v_aload_n (pc := 12) O dX5_rangeOf_12 rfl ?_
        refine vm_get (pc := 13) O hR 5 rfl q2048 rfl dX5_rangeOf_13 ?_
        refine v_iload_n (pc := 16) O dX5_rangeOf_16 rfl ?_
        refine v_iconst (pc := 17) O (x := 1) dX5_rangeOf_17 (by decide) ?_
        refine v_iadd (pc := 18) O dX5_rangeOf_18 ?_
        refine vm_iald (pc := 19) O hR 5 rfl rfl (by rw [nI_1]; exact ir_nI (show j2 + 1 < 32 by have := rng_lt h31 hW.2.2.1.2 c_9; omega) (by decide)) (x := (s 5 ((nI j2) + 1))) rfl dX5_rangeOf_19 ?_
        refine v_iload_n (pc := 20) O dX5_rangeOf_20 rfl ?_
        refine v_icmp_gt (pc := 21) (tgt := 30) O dX5_rangeOf_21 (by decide) (fun c_21 => ?_) (fun c_21 => ?_)
        · refine v_iload_n (pc := 30) O dX5_rangeOf_30 rfl ?_
          exact v_iret (pc := 31) O hr (Nat.le_refl _) (Nat.le_refl _) dX5_rangeOf_31 ⟨_, rfl, ⟨by rw [he2, rng_step h31, if_neg (fun h => absurd c_21 (by rw [i_lt]; have := h.2; rw [i_le] at this; omega))], hR⟩⟩
        · refine v_iinc (pc := 24) (y := (nI (j2 + 1))) (lv' := [(2, .int (nI (j2 + 1))), (0, .ref (ad 0)), (1, .int key)]) O dX5_rangeOf_24 rfl (nI_inc _) rfl rfl ?_
          refine v_goto (pc := 27) O (tgt := 2) dX5_rangeOf_27 (by decide) ?_
          exact v_locs [0, 1, 2] rfl (ih2 (j2 + 1)  _ (by omega) (by omega) (by rw [he2, rng_step h31, if_pos ⟨i_nle c_9, i_nlt c_21⟩, nI_1]) (rng_lt h31 hW.2.2.1.2 c_9) hR)
  exact v_locs [0, 1, 2] rfl (L2 (32 + 1) 0  _ (by omega) (by omega) rfl (by omega) hR)
set_option maxHeartbeats 4000000 in
theorem mm_nodeOf (l : Launch) (Γ : Gm) (ad : Nat → Nat) (key : Int32) {s : St} {μ0 : Mem} {B : Nat} (hW : WfM B s) (hR : RepM Γ ad s μ0) : MetV l Γ yX5_nodeOf cX5_nodeOf 2 (some .int) 2 0 0 [.ref (ad 0), .int key] μ0 (PI (fun r9 μ1 => r9 = (nodeOfF s key) ∧ RepM Γ ad s μ1)) := by
  refine MetV.of (by decide +kernel) rfl ?_
  intro X sz hl hr hnm O
  subst hl
  show V X Γ _ 2 _ 0 0 μ0 0 [(0, .ref (ad 0)), (1, .int key)] []
  refine v_aload_n (pc := 0) O dX5_nodeOf_0 rfl ?_
  refine vm_get (pc := 1) O hR 6 rfl q2049 rfl dX5_nodeOf_1 ?_
  refine v_aload_n (pc := 4) O dX5_nodeOf_4 rfl ?_
  refine v_iload_n (pc := 5) O dX5_nodeOf_5 rfl ?_
  refine v_callVi0 (pc := 6) (nA := 1) O (mm_rangeOf (xL X) Γ ad key hW hR) hR.1 rfl q2183 q2185 qs24 q71 q2186 (by decide +kernel) rfl rfl rfl rfl (Nat.le_of_ble_eq_true rfl) (Nat.le_refl _) (Nat.le_refl _) dX5_nodeOf_6 (fun x μ h => ?_)
  obtain ⟨rfl, hR⟩ := h
  refine vm_iald (pc := 9) O hR 6 rfl rfl (rng_ir hW) (x := (s 6 (rangeOfF s key))) rfl dX5_nodeOf_9 ?_
  exact v_iret (pc := 10) O hr (Nat.le_refl _) (Nat.le_refl _) dX5_nodeOf_10 ⟨_, rfl, ⟨by simp [nodeOfF], by simpa [nodeOfF] using hR⟩⟩
set_option maxHeartbeats 4000000 in
theorem mm_pass (l : Launch) (Γ : Gm) (ad : Nat → Nat) (t : Int32) {s : St} {μ0 : Mem}  (hR : RepM Γ ad s μ0) : MetV l Γ yX5_pass cX5_pass 2 (some .int) 3 0 0 [.ref (ad 0), .int t] μ0 (PI (fun r9 μ1 => r9 = (passO s t).2 ∧ RepM Γ ad ((passO s t).1) μ1)) := by
  refine MetV.of (by decide +kernel) rfl ?_
  intro X sz hl hr hnm O
  subst hl
  show V X Γ _ 2 _ 0 0 μ0 0 [(0, .ref (ad 0)), (1, .int t)] []
  refine v_aload_n (pc := 0) O dX5_pass_0 rfl ?_
  refine v_iload_n (pc := 1) O dX5_pass_1 rfl ?_
  refine v_iconst (pc := 2) O (x := 1) dX5_pass_2 (by decide) ?_
  refine v_bipush (pc := 3) O (x := 50) dX5_pass_3 (by decide) ?_
  refine v_callSi0 (pc := 5) (nA := 3) O (mm_in (xL X) Γ t 1 50 _) q2149 q2150 q71 q2151 (by decide +kernel) rfl rfl rfl rfl (Nat.le_of_ble_eq_true rfl) (Nat.le_refl _) (Nat.le_refl _) dX5_pass_5 (fun x μ1 h => ?_)
  obtain ⟨rfl, rfl⟩ := h
  refine v_if_ne_b (pc := 8) (tgt := 15) O dX5_pass_8 (by decide) (fun c_8 => ?_) (fun c_8 => ?_)
  · refine v_aload_n (pc := 15) O dX5_pass_15 rfl ?_
    refine vm_geti (pc := 16) O hR 0 rfl q2043 (x := (s 0 0)) rfl rfl dX5_pass_16 ?_
    refine v_iload_n (pc := 19) O dX5_pass_19 rfl ?_
    refine v_iadd (pc := 20) O dX5_pass_20 ?_
    refine v_sipush (pc := 21) O (x := 2000) dX5_pass_21 (by decide) ?_
    refine v_icmp_le (pc := 24) (tgt := 31) O dX5_pass_24 (by decide) (fun c_24 => ?_) (fun c_24 => ?_)
    · refine v_iconst (pc := 31) O (x := 0) dX5_pass_31 (by decide) ?_
      refine vm_put (pc := 32) O hR 31 (by decide) q2074 dX5_pass_32 (fun μ hR => ?_)
      refine v_aload_n (pc := 35) O dX5_pass_35 rfl ?_
      refine v_dup (pc := 36) O dX5_pass_36 rfl ?_
      refine vm_geti (pc := 37) O hR 0 rfl q2043 (x := (s 0 0)) rfl ((sset_f (by decide)).trans rfl) dX5_pass_37 ?_
      refine v_aload_n (pc := 40) O dX5_pass_40 rfl ?_
      refine vm_geti (pc := 41) O hR 31 rfl q2074 (x := 0) rfl sset_eq dX5_pass_41 ?_
      refine v_if_ne (pc := 44) (tgt := 51) O dX5_pass_44 (by decide) (fun c => absurd (by decide) c) (fun _ => ?_)
      refine v_iload_n (pc := 47) O dX5_pass_47 rfl ?_
      refine v_goto (pc := 48) O (tgt := 52) dX5_pass_48 (by decide) ?_
      refine v_iadd (pc := 52) O dX5_pass_52 ?_
      refine vm_put (pc := 53) O hR 0 (by decide) q2043 dX5_pass_53 (fun μ hR => ?_)
      refine v_aload_n (pc := 56) O dX5_pass_56 rfl ?_
      refine vm_geti (pc := 57) O hR 31 rfl q2074 (x := 0) rfl ((sset_f (by decide)).trans sset_eq) dX5_pass_57 ?_
      refine v_if_ne (pc := 60) (tgt := 70) O dX5_pass_60 (by decide) (fun c => absurd (by decide) c) (fun _ => ?_)
      refine v_aload_n (pc := 63) O dX5_pass_63 rfl ?_
      refine vm_geti (pc := 64) O hR 0 rfl q2043 (x := ((s 0 0) + t)) rfl sset_eq dX5_pass_64 ?_
      refine v_goto (pc := 67) O (tgt := 71) dX5_pass_67 (by decide) ?_
      exact v_iret (pc := 71) O hr (Nat.le_refl _) (Nat.le_refl _) dX5_pass_71 ⟨_, rfl, ⟨by simp [passO, c_8, c_24], by simpa [passO, c_8, c_24, sset_id, sset_f] using hR⟩⟩
    · refine v_iconst (pc := 27) O (x := 2) dX5_pass_27 (by decide) ?_
      refine v_goto (pc := 28) O (tgt := 32) dX5_pass_28 (by decide) ?_
      refine vm_put (pc := 32) O hR 31 (by decide) q2074 dX5_pass_32 (fun μ hR => ?_)
      refine v_aload_n (pc := 35) O dX5_pass_35 rfl ?_
      refine v_dup (pc := 36) O dX5_pass_36 rfl ?_
      refine vm_geti (pc := 37) O hR 0 rfl q2043 (x := (s 0 0)) rfl ((sset_f (by decide)).trans rfl) dX5_pass_37 ?_
      refine v_aload_n (pc := 40) O dX5_pass_40 rfl ?_
      refine vm_geti (pc := 41) O hR 31 rfl q2074 (x := 2) rfl sset_eq dX5_pass_41 ?_
      refine v_if_ne (pc := 44) (tgt := 51) O dX5_pass_44 (by decide) (fun _ => ?_) (fun c => absurd c (by decide))
      refine v_iconst (pc := 51) O (x := 0) dX5_pass_51 (by decide) ?_
      refine v_iadd (pc := 52) O dX5_pass_52 ?_
      refine vm_put (pc := 53) O hR 0 (by decide) q2043 dX5_pass_53 (fun μ hR => ?_)
      refine v_aload_n (pc := 56) O dX5_pass_56 rfl ?_
      refine vm_geti (pc := 57) O hR 31 rfl q2074 (x := 2) rfl ((sset_f (by decide)).trans sset_eq) dX5_pass_57 ?_
      refine v_if_ne (pc := 60) (tgt := 70) O dX5_pass_60 (by decide) (fun _ => ?_) (fun c => absurd c (by decide))
      refine v_iconst (pc := 70) O (x := 0) dX5_pass_70 (by decide) ?_
      exact v_iret (pc := 71) O hr (Nat.le_refl _) (Nat.le_refl _) dX5_pass_71 ⟨_, rfl, ⟨by simp [passO, c_8, c_24], by simpa [passO, c_8, c_24, sset_id, sset_f] using hR⟩⟩
  · refine v_iconst (pc := 11) O (x := 1) dX5_pass_11 (by decide) ?_
    refine v_goto (pc := 12) O (tgt := 32) dX5_pass_12 (by decide) ?_
    refine vm_put (pc := 32) O hR 31 (by decide) q2074 dX5_pass_32 (fun μ hR => ?_)
    refine v_aload_n (pc := 35) O dX5_pass_35 rfl ?_
    refine v_dup (pc := 36) O dX5_pass_36 rfl ?_
    refine vm_geti (pc := 37) O hR 0 rfl q2043 (x := (s 0 0)) rfl ((sset_f (by decide)).trans rfl) dX5_pass_37 ?_
    refine v_aload_n (pc := 40) O dX5_pass_40 rfl ?_
    refine vm_geti (pc := 41) O hR 31 rfl q2074 (x := 1) rfl sset_eq dX5_pass_41 ?_
    refine v_if_ne (pc := 44) (tgt := 51) O dX5_pass_44 (by decide) (fun _ => ?_) (fun c => absurd c (by decide))
    refine v_iconst (pc := 51) O (x := 0) dX5_pass_51 (by decide) ?_
    refine v_iadd (pc := 52) O dX5_pass_52 ?_
    refine vm_put (pc := 53) O hR 0 (by decide) q2043 dX5_pass_53 (fun μ hR => ?_)
    refine v_aload_n (pc := 56) O dX5_pass_56 rfl ?_
    refine vm_geti (pc := 57) O hR 31 rfl q2074 (x := 1) rfl ((sset_f (by decide)).trans sset_eq) dX5_pass_57 ?_
    refine v_if_ne (pc := 60) (tgt := 70) O dX5_pass_60 (by decide) (fun _ => ?_) (fun c => absurd c (by decide))
    refine v_iconst (pc := 70) O (x := 0) dX5_pass_70 (by decide) ?_
    exact v_iret (pc := 71) O hr (Nat.le_refl _) (Nat.le_refl _) dX5_pass_71 ⟨_, rfl, ⟨by simp [passO, c_8], by simpa [passO, c_8, sset_id, sset_f] using hR⟩⟩
set_option maxHeartbeats 4000000 in
theorem mm_skew (l : Launch) (Γ : Gm) (ad : Nat → Nat) (x k : Int32) {s : St} {μ0 : Mem}  (hR : RepM Γ ad s μ0) : MetV l Γ yX5_skew cX5_skew 4 (some .int) 3 0 0 [.ref (ad 0), .int x, .int k] μ0 (PI (fun r9 μ1 => r9 = (skewO s x k).2 ∧ RepM Γ ad ((skewO s x k).1) μ1)) := by
  refine MetV.of (by decide +kernel) rfl ?_
  intro X sz hl hr hnm O
  subst hl
  show V X Γ _ 4 _ 0 0 μ0 0 [(0, .ref (ad 0)), (1, .int x), (2, .int k)] []
  refine v_aload_n (pc := 0) O dX5_skew_0 rfl ?_
  refine v_iload_n (pc := 1) O dX5_skew_1 rfl ?_
  refine v_iconst (pc := 2) O (x := 0) dX5_skew_2 (by decide) ?_
  refine v_iconst (pc := 3) O (x := 3) dX5_skew_3 (by decide) ?_
  refine v_callSi0 (pc := 4) (nA := 3) O (mm_in (xL X) Γ x 0 3 _) q2149 q2150 q71 q2151 (by decide +kernel) rfl rfl rfl rfl (Nat.le_of_ble_eq_true rfl) (Nat.le_refl _) (Nat.le_refl _) dX5_skew_4 (fun x μ1 h => ?_)
  obtain ⟨rfl, rfl⟩ := h
  refine v_if_ne_b (pc := 7) (tgt := 14) O dX5_skew_7 (by decide) (fun c_7 => ?_) (fun c_7 => ?_)
  · have h_x : ir x (nI 4) := ir_of (hi := 3) (by decide) (by decide) (by decide) c_7
    refine v_iload_n (pc := 14) O dX5_skew_14 rfl ?_
    refine v_bipush (pc := 15) O (x := -5) dX5_skew_15 (by decide) ?_
    refine v_iconst (pc := 17) O (x := 5) dX5_skew_17 (by decide) ?_
    refine v_callSi0 (pc := 18) (nA := 3) O (mm_in (xL X) Γ k (-5) 5 _) q2149 q2150 q71 q2151 (by decide +kernel) rfl rfl rfl rfl (Nat.le_of_ble_eq_true rfl) (Nat.le_refl _) (Nat.le_refl _) dX5_skew_18 (fun x μ1 h => ?_)
    obtain ⟨rfl, rfl⟩ := h
    refine v_if_ne_b (pc := 21) (tgt := 28) O dX5_skew_21 (by decide) (fun c_21 => ?_) (fun c_21 => ?_)
    · refine v_iconst (pc := 28) O (x := 0) dX5_skew_28 (by decide) ?_
      refine vm_put (pc := 29) O hR 31 (by decide) q2074 dX5_skew_29 (fun μ hR => ?_)
      refine v_aload_n (pc := 32) O dX5_skew_32 rfl ?_
      refine vm_geti (pc := 33) O hR 31 rfl q2074 (x := 0) rfl sset_eq dX5_skew_33 ?_
      refine v_if_le (pc := 36) (tgt := 41) O dX5_skew_36 (by decide) (fun _ => ?_) (fun c => absurd (by decide) c)
      refine v_aload_n (pc := 41) O dX5_skew_41 rfl ?_
      refine vm_get (pc := 42) O hR 1 rfl q2044 rfl dX5_skew_42 ?_
      refine v_iload_n (pc := 45) O dX5_skew_45 rfl ?_
      refine vm_iald (pc := 46) O hR 1 rfl rfl h_x (x := (s 1 x)) ((sset_f (by decide)).trans rfl) dX5_skew_46 ?_
      refine v_istore_n (pc := 47) (lv' := [(3, .int (s 1 x)), (0, .ref (ad 0)), (1, .int x), (2, .int k)]) O dX5_skew_47 rfl rfl ?_
      refine v_aload_n (pc := 48) O dX5_skew_48 rfl ?_
      refine vm_get (pc := 49) O hR 1 rfl q2044 rfl dX5_skew_49 ?_
      refine v_iload_n (pc := 52) O dX5_skew_52 rfl ?_
      refine v_iload_n (pc := 53) O dX5_skew_53 rfl ?_
      refine vm_iast (pc := 54) O hR 1 rfl rfl h_x dX5_skew_54 (fun μ hR => ?_)
      refine v_iload_n (pc := 55) O dX5_skew_55 rfl ?_
      exact v_iret (pc := 56) O hr (Nat.le_refl _) (Nat.le_refl _) dX5_skew_56 ⟨_, rfl, ⟨by simp [skewO, c_7, c_21], by simpa [skewO, c_7, c_21] using hR⟩⟩
    · refine v_iconst (pc := 24) O (x := 2) dX5_skew_24 (by decide) ?_
      refine v_goto (pc := 25) O (tgt := 29) dX5_skew_25 (by decide) ?_
      refine vm_put (pc := 29) O hR 31 (by decide) q2074 dX5_skew_29 (fun μ hR => ?_)
      refine v_aload_n (pc := 32) O dX5_skew_32 rfl ?_
      refine vm_geti (pc := 33) O hR 31 rfl q2074 (x := 2) rfl sset_eq dX5_skew_33 ?_
      refine v_if_le (pc := 36) (tgt := 41) O dX5_skew_36 (by decide) (fun c => absurd c (by decide)) (fun _ => ?_)
      refine v_iconst (pc := 39) O (x := 0) dX5_skew_39 (by decide) ?_
      exact v_iret (pc := 40) O hr (Nat.le_refl _) (Nat.le_refl _) dX5_skew_40 ⟨_, rfl, ⟨by simp [skewO, c_7, c_21], by simpa [skewO, c_7, c_21] using hR⟩⟩
  · refine v_iconst (pc := 10) O (x := 1) dX5_skew_10 (by decide) ?_
    refine v_goto (pc := 11) O (tgt := 29) dX5_skew_11 (by decide) ?_
    refine vm_put (pc := 29) O hR 31 (by decide) q2074 dX5_skew_29 (fun μ hR => ?_)
    refine v_aload_n (pc := 32) O dX5_skew_32 rfl ?_
    refine vm_geti (pc := 33) O hR 31 rfl q2074 (x := 1) rfl sset_eq dX5_skew_33 ?_
    refine v_if_le (pc := 36) (tgt := 41) O dX5_skew_36 (by decide) (fun c => absurd c (by decide)) (fun _ => ?_)
    refine v_iconst (pc := 39) O (x := 0) dX5_skew_39 (by decide) ?_
    exact v_iret (pc := 40) O hr (Nat.le_refl _) (Nat.le_refl _) dX5_skew_40 ⟨_, rfl, ⟨by simp [skewO, c_7], by simpa [skewO, c_7] using hR⟩⟩
set_option maxHeartbeats 4000000 in
theorem mm_clock (l : Launch) (Γ : Gm) (ad : Nat → Nat) (x : Int32) {s : St} {μ0 : Mem}  (hR : RepM Γ ad s μ0) : MetV l Γ yX5_clock cX5_clock 2 (some .int) 3 0 0 [.ref (ad 0), .int x] μ0 (PI (fun r9 μ1 => r9 = (clockO s x).2 ∧ RepM Γ ad ((clockO s x).1) μ1)) := by
  refine MetV.of (by decide +kernel) rfl ?_
  intro X sz hl hr hnm O
  subst hl
  show V X Γ _ 2 _ 0 0 μ0 0 [(0, .ref (ad 0)), (1, .int x)] []
  refine v_aload_n (pc := 0) O dX5_clock_0 rfl ?_
  refine v_iload_n (pc := 1) O dX5_clock_1 rfl ?_
  refine v_iconst (pc := 2) O (x := 0) dX5_clock_2 (by decide) ?_
  refine v_iconst (pc := 3) O (x := 3) dX5_clock_3 (by decide) ?_
  refine v_callSi0 (pc := 4) (nA := 3) O (mm_in (xL X) Γ x 0 3 _) q2149 q2150 q71 q2151 (by decide +kernel) rfl rfl rfl rfl (Nat.le_of_ble_eq_true rfl) (Nat.le_refl _) (Nat.le_refl _) dX5_clock_4 (fun x μ1 h => ?_)
  obtain ⟨rfl, rfl⟩ := h
  refine v_if_ne_b (pc := 7) (tgt := 14) O dX5_clock_7 (by decide) (fun c_7 => ?_) (fun c_7 => ?_)
  · have h_x : ir x (nI 4) := ir_of (hi := 3) (by decide) (by decide) (by decide) c_7
    refine v_aload_n (pc := 14) O dX5_clock_14 rfl ?_
    refine vm_get (pc := 15) O hR 3 rfl q2046 rfl dX5_clock_15 ?_
    refine v_iload_n (pc := 18) O dX5_clock_18 rfl ?_
    refine vm_zald (pc := 19) O hR 3 rfl rfl h_x (x := (s 3 x)) rfl dX5_clock_19 ?_
    refine v_if_eq (pc := 20) (tgt := 27) O dX5_clock_20 (by decide) (fun c_20 => ?_) (fun c_20 => ?_)
    · refine v_iconst (pc := 27) O (x := 0) dX5_clock_27 (by decide) ?_
      refine vm_put (pc := 28) O hR 31 (by decide) q2074 dX5_clock_28 (fun μ hR => ?_)
      refine v_aload_n (pc := 31) O dX5_clock_31 rfl ?_
      refine vm_geti (pc := 32) O hR 31 rfl q2074 (x := 0) rfl sset_eq dX5_clock_32 ?_
      refine v_if_ne (pc := 35) (tgt := 46) O dX5_clock_35 (by decide) (fun c => absurd (by decide) c) (fun _ => ?_)
      refine v_aload_n (pc := 38) O dX5_clock_38 rfl ?_
      refine v_iload_n (pc := 39) O dX5_clock_39 rfl ?_
      refine v_callVi0 (pc := 40) (nA := 1) O (mm_asks (xL X) Γ ad x h_x hR) hR.1 rfl q2160 q2162 qs21 q71 q2163 (by decide +kernel) rfl rfl rfl rfl (Nat.le_of_ble_eq_true rfl) (Nat.le_refl _) (Nat.le_refl _) dX5_clock_40 (fun x μ h => ?_)
      obtain ⟨hx, hR⟩ := h
      rw [asks_oth (by decide) (by decide) (by decide)] at hx
      subst hx
      refine v_goto (pc := 43) O (tgt := 47) dX5_clock_43 (by decide) ?_
      exact v_iret (pc := 47) O hr (Nat.le_refl _) (Nat.le_refl _) dX5_clock_47 ⟨_, rfl, ⟨by simp [clockO, asks_oth, c_7, c_20], by simpa [clockO, asks_oth, c_7, c_20] using hR⟩⟩
    · refine v_iconst (pc := 23) O (x := 2) dX5_clock_23 (by decide) ?_
      refine v_goto (pc := 24) O (tgt := 28) dX5_clock_24 (by decide) ?_
      refine vm_put (pc := 28) O hR 31 (by decide) q2074 dX5_clock_28 (fun μ hR => ?_)
      refine v_aload_n (pc := 31) O dX5_clock_31 rfl ?_
      refine vm_geti (pc := 32) O hR 31 rfl q2074 (x := 2) rfl sset_eq dX5_clock_32 ?_
      refine v_if_ne (pc := 35) (tgt := 46) O dX5_clock_35 (by decide) (fun _ => ?_) (fun c => absurd c (by decide))
      refine v_iconst (pc := 46) O (x := 0) dX5_clock_46 (by decide) ?_
      exact v_iret (pc := 47) O hr (Nat.le_refl _) (Nat.le_refl _) dX5_clock_47 ⟨_, rfl, ⟨by simp [clockO, asks_oth, c_7, c_20], by simpa [clockO, asks_oth, c_7, c_20] using hR⟩⟩
  · refine v_iconst (pc := 10) O (x := 1) dX5_clock_10 (by decide) ?_
    refine v_goto (pc := 11) O (tgt := 28) dX5_clock_11 (by decide) ?_
    refine vm_put (pc := 28) O hR 31 (by decide) q2074 dX5_clock_28 (fun μ hR => ?_)
    refine v_aload_n (pc := 31) O dX5_clock_31 rfl ?_
    refine vm_geti (pc := 32) O hR 31 rfl q2074 (x := 1) rfl sset_eq dX5_clock_32 ?_
    refine v_if_ne (pc := 35) (tgt := 46) O dX5_clock_35 (by decide) (fun _ => ?_) (fun c => absurd c (by decide))
    refine v_iconst (pc := 46) O (x := 0) dX5_clock_46 (by decide) ?_
    exact v_iret (pc := 47) O hr (Nat.le_refl _) (Nat.le_refl _) dX5_clock_47 ⟨_, rfl, ⟨by simp [clockO, asks_oth, c_7], by simpa [clockO, asks_oth, c_7] using hR⟩⟩
set_option maxHeartbeats 4000000 in
theorem mm_covers (l : Launch) (Γ : Gm) (ad : Nat → Nat) (key st : Int32) {s : St} {μ0 : Mem} (h_key : ir key 32) (hR : RepM Γ ad s μ0) : MetV l Γ yX5_covers cX5_covers 3 none 1 0 0 [.ref (ad 0), .int key, .int st] μ0 (PV (fun μ1 => RepM Γ ad (coversS s key st) μ1)) := by
  refine MetV.of (by decide +kernel) rfl ?_
  intro X sz hl hr hnm O
  subst hl
  show V X Γ _ 3 _ 0 0 μ0 0 [(0, .ref (ad 0)), (1, .int key), (2, .int st)] []
  refine v_iload_n (pc := 0) O dX5_covers_0 rfl ?_
  refine v_aload_n (pc := 1) O dX5_covers_1 rfl ?_
  refine vm_get (pc := 2) O hR 10 rfl q2053 rfl dX5_covers_2 ?_
  refine v_iload_n (pc := 5) O dX5_covers_5 rfl ?_
  refine vm_iald (pc := 6) O hR 10 rfl rfl h_key (x := (s 10 key)) rfl dX5_covers_6 ?_
  refine v_icmp_le (pc := 7) (tgt := 25) O dX5_covers_7 (by decide) (fun c_7 => ?_) (fun c_7 => ?_)
  · exact v_vret (pc := 25) O hr (Nat.le_refl _) (Nat.le_refl _) dX5_covers_25 ⟨rfl, by simpa [coversS, c_7] using hR⟩
  · refine v_aload_n (pc := 10) O dX5_covers_10 rfl ?_
    refine vm_get (pc := 11) O hR 10 rfl q2053 rfl dX5_covers_11 ?_
    refine v_iload_n (pc := 14) O dX5_covers_14 rfl ?_
    refine v_iload_n (pc := 15) O dX5_covers_15 rfl ?_
    refine vm_iast (pc := 16) O hR 10 rfl rfl h_key dX5_covers_16 (fun μ hR => ?_)
    refine v_aload_n (pc := 17) O dX5_covers_17 rfl ?_
    refine vm_get (pc := 18) O hR 11 rfl q2054 rfl dX5_covers_18 ?_
    refine v_iload_n (pc := 21) O dX5_covers_21 rfl ?_
    refine v_bipush (pc := 22) O (x := -2) dX5_covers_22 (by decide) ?_
    refine vm_iast (pc := 24) O hR 11 rfl rfl h_key dX5_covers_24 (fun μ hR => ?_)
    exact v_vret (pc := 25) O hr (Nat.le_refl _) (Nat.le_refl _) dX5_covers_25 ⟨rfl, by simpa [coversS, c_7] using hR⟩
set_option maxHeartbeats 4000000 in
theorem mm_down (l : Launch) (Γ : Gm) (ad : Nat → Nat) (x : Int32) {s : St} {μ0 : Mem} {B : Nat} (hW : WfM B s) (hR : RepM Γ ad s μ0) : MetV l Γ yX5_down cX5_down 4 (some .int) 3 0 0 [.ref (ad 0), .int x] μ0 (PI (fun r9 μ1 => r9 = (downO s x).2 ∧ RepM Γ ad ((downO s x).1) μ1)) := by
  refine MetV.of (by decide +kernel) rfl ?_
  intro X sz hl hr hnm O
  subst hl
  show V X Γ _ 4 _ 0 0 μ0 0 [(0, .ref (ad 0)), (1, .int x)] []
  refine v_aload_n (pc := 0) O dX5_down_0 rfl ?_
  refine v_iload_n (pc := 1) O dX5_down_1 rfl ?_
  refine v_iconst (pc := 2) O (x := 0) dX5_down_2 (by decide) ?_
  refine v_iconst (pc := 3) O (x := 3) dX5_down_3 (by decide) ?_
  refine v_callSi0 (pc := 4) (nA := 3) O (mm_in (xL X) Γ x 0 3 _) q2149 q2150 q71 q2151 (by decide +kernel) rfl rfl rfl rfl (Nat.le_of_ble_eq_true rfl) (Nat.le_refl _) (Nat.le_refl _) dX5_down_4 (fun x μ1 h => ?_)
  obtain ⟨rfl, rfl⟩ := h
  refine v_if_ne_b (pc := 7) (tgt := 14) O dX5_down_7 (by decide) (fun c_7 => ?_) (fun c_7 => ?_)
  · have h_x : ir x (nI 4) := ir_of (hi := 3) (by decide) (by decide) (by decide) c_7
    refine v_aload_n (pc := 14) O dX5_down_14 rfl ?_
    refine vm_get (pc := 15) O hR 3 rfl q2046 rfl dX5_down_15 ?_
    refine v_iload_n (pc := 18) O dX5_down_18 rfl ?_
    refine vm_zald (pc := 19) O hR 3 rfl rfl h_x (x := (s 3 x)) rfl dX5_down_19 ?_
    refine v_if_eq (pc := 20) (tgt := 27) O dX5_down_20 (by decide) (fun c_20 => ?_) (fun c_20 => ?_)
    · refine v_iconst (pc := 27) O (x := 0) dX5_down_27 (by decide) ?_
      refine vm_put (pc := 28) O hR 31 (by decide) q2074 dX5_down_28 (fun μ hR => ?_)
      refine v_aload_n (pc := 31) O dX5_down_31 rfl ?_
      refine vm_geti (pc := 32) O hR 31 rfl q2074 (x := 0) rfl sset_eq dX5_down_32 ?_
      refine v_if_le (pc := 35) (tgt := 40) O dX5_down_35 (by decide) (fun _ => ?_) (fun c => absurd (by decide) c)
      refine v_aload_n (pc := 40) O dX5_down_40 rfl ?_
      refine vm_get (pc := 41) O hR 3 rfl q2046 rfl dX5_down_41 ?_
      refine v_iload_n (pc := 44) O dX5_down_44 rfl ?_
      refine v_iconst (pc := 45) O (x := 1) dX5_down_45 (by decide) ?_
      refine vm_zast (pc := 46) O hR 3 rfl rfl h_x rfl dX5_down_46 (fun μ hR => ?_)
      refine v_iconst (pc := 47) O (x := 0) dX5_down_47 (by decide) ?_
      refine v_istore_n (pc := 48) (lv' := [(2, .int 0), (0, .ref (ad 0)), (1, .int x)]) O dX5_down_48 rfl rfl ?_
      refine v_iconst (pc := 49) O (x := 0) dX5_down_49 (by decide) ?_
      refine v_istore_n (pc := 50) (lv' := [(3, .int 0), (2, .int 0), (0, .ref (ad 0)), (1, .int x)]) O dX5_down_50 rfl rfl ?_
      have L51 : ∀ (d51 j51 : Nat) (s51 : St) (v51_2 : Int32) (μ : Mem), 32 < d51 + j51 → j51 ≤ 32 → (s51, v51_2) = iter (downStep x) j51 ((sset (sset s 31 0 0) 3 x 1), 0) → WfM B s51 → RepM Γ ad s51 μ → V X Γ (gA μ0 sz) 4 (QV X Γ μ0 sz (PI (fun r9 μ1 => r9 = (downO s x).2 ∧ RepM Γ ad ((downO s x).1) μ1)) 0 0) 0 0 μ 51 [(3, .int (nI j51)), (2, .int v51_2), (0, .ref (ad 0)), (1, .int x)] [] := by
        intro d51
        induction d51 with
        | zero => intro j51 s51 v51_2 μ h1 h2; exact absurd h1 (by omega)
        | succ d51 ih51 =>
          intro j51 s51 v51_2 μ hd hj51 he51 hWs51 hR
          refine v_iload_n (pc := 51) O dX5_down_51 rfl ?_
          refine v_bipush (pc := 52) O (x := 32) dX5_down_52 (by decide) ?_
          refine v_icmp_ge (pc := 54) (tgt := 101) O dX5_down_54 (by decide) (fun c_54 => ?_) (fun c_54 => ?_)
          · have hx51 := lp_out rfl (by decide) hj51 c_54
            subst hx51
            refine v_iload_n (pc := 101) O dX5_down_101 rfl ?_
            exact v_iret (pc := 102) O hr (Nat.le_refl _) (Nat.le_refl _) dX5_down_102 ⟨_, rfl, ⟨by simp [downO, c_7, c_20, c_54, ← he51], by simpa [downO, c_7, c_20, c_54, ← he51] using hR⟩⟩
          · have hj51lt := lp_in rfl (by decide) hj51 c_54
            refine v_aload_n (pc := 57) O dX5_down_57 rfl ?_
            refine v_iload_n (pc := 58) O dX5_down_58 rfl ?_
            refine v_callVi0 (pc := 59) (nA := 1) O (mm_nodeOf (xL X) Γ ad (nI j51) hWs51 hR) hR.1 rfl q2179 q2181 qs23 q71 q2182 (by decide +kernel) rfl rfl rfl rfl (Nat.le_of_ble_eq_true rfl) (Nat.le_refl _) (Nat.le_refl _) dX5_down_59 (fun x μ h => ?_)
            obtain ⟨rfl, hR⟩ := h
            refine v_iload_n (pc := 62) O dX5_down_62 rfl ?_
            refine v_icmp_ne (pc := 63) (tgt := 95) O dX5_down_63 (by decide) (fun c_63 => ?_) (fun c_63 => ?_)
            · refine v_iinc (pc := 95) (y := (nI (j51 + 1))) (lv' := [(3, .int (nI (j51 + 1))), (2, .int v51_2), (0, .ref (ad 0)), (1, .int x)]) O dX5_down_95 rfl (nI_inc _) rfl rfl ?_
              refine v_goto (pc := 98) O (tgt := 51) dX5_down_98 (by decide) ?_
              exact v_locs [0, 1, 2, 3] rfl (ih51 (j51 + 1) s51 v51_2 _ (by omega) (by omega) (by rw [iter_s, ← he51]; simp [downStep, c_54, c_63]) hWs51 hR)
            · refine v_aload_n (pc := 66) O dX5_down_66 rfl ?_
              refine vm_get (pc := 67) O hR 7 rfl q2050 rfl dX5_down_67 ?_
              refine v_iload_n (pc := 70) O dX5_down_70 rfl ?_
              refine vm_iald (pc := 71) O hR 7 rfl rfl (ir_nI hj51lt (by decide)) (x := (s51 7 (nI j51))) rfl dX5_down_71 ?_
              refine v_iconst (pc := 72) O (x := -1) dX5_down_72 (by decide) ?_
              refine v_icmp_eq (pc := 73) (tgt := 95) O dX5_down_73 (by decide) (fun c_73 => ?_) (fun c_73 => ?_)
              · refine v_iinc (pc := 95) (y := (nI (j51 + 1))) (lv' := [(3, .int (nI (j51 + 1))), (2, .int v51_2), (0, .ref (ad 0)), (1, .int x)]) O dX5_down_95 rfl (nI_inc _) rfl rfl ?_
                refine v_goto (pc := 98) O (tgt := 51) dX5_down_98 (by decide) ?_
                exact v_locs [0, 1, 2, 3] rfl (ih51 (j51 + 1) s51 v51_2 _ (by omega) (by omega) (by rw [iter_s, ← he51]; simp [downStep, c_54, c_63, c_73]) hWs51 hR)
              · refine v_aload_n (pc := 76) O dX5_down_76 rfl ?_
                refine vm_get (pc := 77) O hR 8 rfl q2051 rfl dX5_down_77 ?_
                refine v_iload_n (pc := 80) O dX5_down_80 rfl ?_
                refine vm_zald (pc := 81) O hR 8 rfl rfl (ir_nI hj51lt (by decide)) (x := (s51 8 (nI j51))) rfl dX5_down_81 ?_
                refine v_if_ne (pc := 82) (tgt := 95) O dX5_down_82 (by decide) (fun c_82 => ?_) (fun c_82 => ?_)
                · refine v_iinc (pc := 95) (y := (nI (j51 + 1))) (lv' := [(3, .int (nI (j51 + 1))), (2, .int v51_2), (0, .ref (ad 0)), (1, .int x)]) O dX5_down_95 rfl (nI_inc _) rfl rfl ?_
                  refine v_goto (pc := 98) O (tgt := 51) dX5_down_98 (by decide) ?_
                  exact v_locs [0, 1, 2, 3] rfl (ih51 (j51 + 1) s51 v51_2 _ (by omega) (by omega) (by rw [iter_s, ← he51]; simp [downStep, c_54, c_63, c_73, c_82]) hWs51 hR)
                · refine v_aload_n (pc := 85) O dX5_down_85 rfl ?_
                  refine vm_get (pc := 86) O hR 7 rfl q2050 rfl dX5_down_86 ?_
                  refine v_iload_n (pc := 89) O dX5_down_89 rfl ?_
                  refine v_iconst (pc := 90) O (x := -1) dX5_down_90 (by decide) ?_
                  refine vm_iast (pc := 91) O hR 7 rfl rfl (ir_nI hj51lt (by decide)) dX5_down_91 (fun μ hR => ?_)
                  refine v_iinc (pc := 92) (y := (v51_2 + 1)) (lv' := [(2, .int (v51_2 + 1)), (3, .int (nI j51)), (0, .ref (ad 0)), (1, .int x)]) O dX5_down_92 rfl rfl rfl rfl ?_
                  refine v_iinc (pc := 95) (y := (nI (j51 + 1))) (lv' := [(3, .int (nI (j51 + 1))), (2, .int (v51_2 + 1)), (0, .ref (ad 0)), (1, .int x)]) O dX5_down_95 rfl (nI_inc _) rfl rfl ?_
                  refine v_goto (pc := 98) O (tgt := 51) dX5_down_98 (by decide) ?_
                  exact v_locs [0, 1, 2, 3] rfl (ih51 (j51 + 1) (sset s51 7 (nI j51) (-1)) (v51_2 + 1) _ (by omega) (by omega) (by rw [iter_s, ← he51]; simp [downStep, c_54, c_63, c_73, c_82]) (WfM.c7 hWs51) hR)
      exact v_locs [0, 1, 2, 3] rfl (L51 (32 + 1) 0 (sset (sset s 31 0 0) 3 x 1) 0 _ (by omega) (by omega) iter_0.symm (WfM.oth (WfM.oth hW (by decide)) (by decide)) hR)
    · refine v_iconst (pc := 23) O (x := 2) dX5_down_23 (by decide) ?_
      refine v_goto (pc := 24) O (tgt := 28) dX5_down_24 (by decide) ?_
      refine vm_put (pc := 28) O hR 31 (by decide) q2074 dX5_down_28 (fun μ hR => ?_)
      refine v_aload_n (pc := 31) O dX5_down_31 rfl ?_
      refine vm_geti (pc := 32) O hR 31 rfl q2074 (x := 2) rfl sset_eq dX5_down_32 ?_
      refine v_if_le (pc := 35) (tgt := 40) O dX5_down_35 (by decide) (fun c => absurd c (by decide)) (fun _ => ?_)
      refine v_iconst (pc := 38) O (x := 0) dX5_down_38 (by decide) ?_
      exact v_iret (pc := 39) O hr (Nat.le_refl _) (Nat.le_refl _) dX5_down_39 ⟨_, rfl, ⟨by simp [downO, c_7, c_20], by simpa [downO, c_7, c_20] using hR⟩⟩
  · refine v_iconst (pc := 10) O (x := 1) dX5_down_10 (by decide) ?_
    refine v_goto (pc := 11) O (tgt := 28) dX5_down_11 (by decide) ?_
    refine vm_put (pc := 28) O hR 31 (by decide) q2074 dX5_down_28 (fun μ hR => ?_)
    refine v_aload_n (pc := 31) O dX5_down_31 rfl ?_
    refine vm_geti (pc := 32) O hR 31 rfl q2074 (x := 1) rfl sset_eq dX5_down_32 ?_
    refine v_if_le (pc := 35) (tgt := 40) O dX5_down_35 (by decide) (fun c => absurd c (by decide)) (fun _ => ?_)
    refine v_iconst (pc := 38) O (x := 0) dX5_down_38 (by decide) ?_
    exact v_iret (pc := 39) O hr (Nat.le_refl _) (Nat.le_refl _) dX5_down_39 ⟨_, rfl, ⟨by simp [downO, c_7], by simpa [downO, c_7] using hR⟩⟩
set_option maxHeartbeats 4000000 in
theorem mm_up (l : Launch) (Γ : Gm) (ad : Nat → Nat) (x : Int32) {s : St} {μ0 : Mem} {B : Nat} (hW : WfM B s) (hR : RepM Γ ad s μ0) : MetV l Γ yX5_up cX5_up 4 (some .int) 3 0 0 [.ref (ad 0), .int x] μ0 (PI (fun r9 μ1 => r9 = (upO s x).2 ∧ RepM Γ ad ((upO s x).1) μ1)) := by
  refine MetV.of (by decide +kernel) rfl ?_
  intro X sz hl hr hnm O
  subst hl
  show V X Γ _ 4 _ 0 0 μ0 0 [(0, .ref (ad 0)), (1, .int x)] []
  refine v_aload_n (pc := 0) O dX5_up_0 rfl ?_
  refine v_iload_n (pc := 1) O dX5_up_1 rfl ?_
  refine v_iconst (pc := 2) O (x := 0) dX5_up_2 (by decide) ?_
  refine v_iconst (pc := 3) O (x := 3) dX5_up_3 (by decide) ?_
  refine v_callSi0 (pc := 4) (nA := 3) O (mm_in (xL X) Γ x 0 3 _) q2149 q2150 q71 q2151 (by decide +kernel) rfl rfl rfl rfl (Nat.le_of_ble_eq_true rfl) (Nat.le_refl _) (Nat.le_refl _) dX5_up_4 (fun x μ1 h => ?_)
  obtain ⟨rfl, rfl⟩ := h
  refine v_if_ne_b (pc := 7) (tgt := 14) O dX5_up_7 (by decide) (fun c_7 => ?_) (fun c_7 => ?_)
  · have h_x : ir x (nI 4) := ir_of (hi := 3) (by decide) (by decide) (by decide) c_7
    refine v_aload_n (pc := 14) O dX5_up_14 rfl ?_
    refine vm_get (pc := 15) O hR 3 rfl q2046 rfl dX5_up_15 ?_
    refine v_iload_n (pc := 18) O dX5_up_18 rfl ?_
    refine vm_zald (pc := 19) O hR 3 rfl rfl h_x (x := (s 3 x)) rfl dX5_up_19 ?_
    refine v_if_ne (pc := 20) (tgt := 27) O dX5_up_20 (by decide) (fun c_20 => ?_) (fun c_20 => ?_)
    · refine v_iconst (pc := 27) O (x := 0) dX5_up_27 (by decide) ?_
      refine vm_put (pc := 28) O hR 31 (by decide) q2074 dX5_up_28 (fun μ hR => ?_)
      refine v_aload_n (pc := 31) O dX5_up_31 rfl ?_
      refine vm_geti (pc := 32) O hR 31 rfl q2074 (x := 0) rfl sset_eq dX5_up_32 ?_
      refine v_if_le (pc := 35) (tgt := 40) O dX5_up_35 (by decide) (fun _ => ?_) (fun c => absurd (by decide) c)
      refine v_aload_n (pc := 40) O dX5_up_40 rfl ?_
      refine vm_get (pc := 41) O hR 3 rfl q2046 rfl dX5_up_41 ?_
      refine v_iload_n (pc := 44) O dX5_up_44 rfl ?_
      refine v_iconst (pc := 45) O (x := 0) dX5_up_45 (by decide) ?_
      refine vm_zast (pc := 46) O hR 3 rfl rfl h_x rfl dX5_up_46 (fun μ hR => ?_)
      refine v_aload_n (pc := 47) O dX5_up_47 rfl ?_
      refine v_iload_n (pc := 48) O dX5_up_48 rfl ?_
      refine v_callVi0 (pc := 49) (nA := 1) O (mm_asks (xL X) Γ ad x h_x hR) hR.1 rfl q2160 q2162 qs21 q71 q2163 (by decide +kernel) rfl rfl rfl rfl (Nat.le_of_ble_eq_true rfl) (Nat.le_refl _) (Nat.le_refl _) dX5_up_49 (fun x μ h => ?_)
      obtain ⟨hx, hR⟩ := h
      rw [asks_oth (by decide) (by decide) (by decide), asks_oth (by decide) (by decide) (by decide)] at hx
      subst hx
      refine v_istore_n (pc := 52) (lv' := [(2, .int (asksF s x)), (0, .ref (ad 0)), (1, .int x)]) O dX5_up_52 rfl rfl ?_
      refine v_iconst (pc := 53) O (x := 0) dX5_up_53 (by decide) ?_
      refine v_istore_n (pc := 54) (lv' := [(3, .int 0), (2, .int (asksF s x)), (0, .ref (ad 0)), (1, .int x)]) O dX5_up_54 rfl rfl ?_
      have L55 : ∀ (d55 j55 : Nat) (s55 : St) (μ : Mem), 32 < d55 + j55 → j55 ≤ 32 → s55 = iter (upStep x (asksF s x)) j55 (asksS (sset (sset s 31 0 0) 3 x 0) x) → WfM B s55 → RepM Γ ad s55 μ → V X Γ (gA μ0 sz) 4 (QV X Γ μ0 sz (PI (fun r9 μ1 => r9 = (upO s x).2 ∧ RepM Γ ad ((upO s x).1) μ1)) 0 0) 0 0 μ 55 [(3, .int (nI j55)), (2, .int (asksF s x)), (0, .ref (ad 0)), (1, .int x)] [] := by
        intro d55
        induction d55 with
        | zero => intro j55 s55 μ h1 h2; exact absurd h1 (by omega)
        | succ d55 ih55 =>
          intro j55 s55 μ hd hj55 he55 hWs55 hR
          refine v_iload_n (pc := 55) O dX5_up_55 rfl ?_
          refine v_bipush (pc := 56) O (x := 32) dX5_up_56 (by decide) ?_
          refine v_icmp_ge (pc := 58) (tgt := 82) O dX5_up_58 (by decide) (fun c_58 => ?_) (fun c_58 => ?_)
          · have hx55 := lp_out rfl (by decide) hj55 c_58
            subst hx55
            refine v_iload_n (pc := 82) O dX5_up_82 rfl ?_
            exact v_iret (pc := 83) O hr (Nat.le_refl _) (Nat.le_refl _) dX5_up_83 ⟨_, rfl, ⟨by simp [upO, asks_oth, c_7, c_20, c_58, ← he55], by simpa [upO, asks_oth, c_7, c_20, c_58, ← he55] using hR⟩⟩
          · have hj55lt := lp_in rfl (by decide) hj55 c_58
            refine v_aload_n (pc := 61) O dX5_up_61 rfl ?_
            refine v_iload_n (pc := 62) O dX5_up_62 rfl ?_
            refine v_callVi0 (pc := 63) (nA := 1) O (mm_nodeOf (xL X) Γ ad (nI j55) hWs55 hR) hR.1 rfl q2179 q2181 qs23 q71 q2182 (by decide +kernel) rfl rfl rfl rfl (Nat.le_of_ble_eq_true rfl) (Nat.le_refl _) (Nat.le_refl _) dX5_up_63 (fun x μ h => ?_)
            obtain ⟨rfl, hR⟩ := h
            refine v_iload_n (pc := 66) O dX5_up_66 rfl ?_
            refine v_icmp_ne (pc := 67) (tgt := 76) O dX5_up_67 (by decide) (fun c_67 => ?_) (fun c_67 => ?_)
            · refine v_iinc (pc := 76) (y := (nI (j55 + 1))) (lv' := [(3, .int (nI (j55 + 1))), (2, .int (asksF s x)), (0, .ref (ad 0)), (1, .int x)]) O dX5_up_76 rfl (nI_inc _) rfl rfl ?_
              refine v_goto (pc := 79) O (tgt := 55) dX5_up_79 (by decide) ?_
              exact v_locs [0, 1, 2, 3] rfl (ih55 (j55 + 1) s55 _ (by omega) (by omega) (by rw [iter_s, ← he55]; simp [upStep, asks_oth, c_58, c_67]) hWs55 hR)
            · refine v_aload_n (pc := 70) O dX5_up_70 rfl ?_
              refine v_iload_n (pc := 71) O dX5_up_71 rfl ?_
              refine v_iload_n (pc := 72) O dX5_up_72 rfl ?_
              refine v_callVv0 (pc := 73) (nA := 2) O (mm_covers (xL X) Γ ad (nI j55) (asksF s x) (ir_nI hj55lt (by decide)) hR) hR.1 rfl q2191 q2193 qs25 q71 q2194 (by decide +kernel) rfl rfl rfl rfl (Nat.le_of_ble_eq_true rfl) (Nat.le_refl _) (Nat.le_refl _) dX5_up_73 (fun μ hR => ?_)
              refine v_iinc (pc := 76) (y := (nI (j55 + 1))) (lv' := [(3, .int (nI (j55 + 1))), (2, .int (asksF s x)), (0, .ref (ad 0)), (1, .int x)]) O dX5_up_76 rfl (nI_inc _) rfl rfl ?_
              refine v_goto (pc := 79) O (tgt := 55) dX5_up_79 (by decide) ?_
              exact v_locs [0, 1, 2, 3] rfl (ih55 (j55 + 1) (coversS s55 (nI j55) (asksF s x)) _ (by omega) (by omega) (by rw [iter_s, ← he55]; simp [upStep, asks_oth, c_58, c_67]) (WfM.covers hWs55) hR)
      exact v_locs [0, 1, 2, 3] rfl (L55 (32 + 1) 0 (asksS (sset (sset s 31 0 0) 3 x 0) x) _ (by omega) (by omega) iter_0.symm (WfM.asks (WfM.oth (WfM.oth hW (by decide)) (by decide))) hR)
    · refine v_iconst (pc := 23) O (x := 2) dX5_up_23 (by decide) ?_
      refine v_goto (pc := 24) O (tgt := 28) dX5_up_24 (by decide) ?_
      refine vm_put (pc := 28) O hR 31 (by decide) q2074 dX5_up_28 (fun μ hR => ?_)
      refine v_aload_n (pc := 31) O dX5_up_31 rfl ?_
      refine vm_geti (pc := 32) O hR 31 rfl q2074 (x := 2) rfl sset_eq dX5_up_32 ?_
      refine v_if_le (pc := 35) (tgt := 40) O dX5_up_35 (by decide) (fun c => absurd c (by decide)) (fun _ => ?_)
      refine v_iconst (pc := 38) O (x := 0) dX5_up_38 (by decide) ?_
      exact v_iret (pc := 39) O hr (Nat.le_refl _) (Nat.le_refl _) dX5_up_39 ⟨_, rfl, ⟨by simp [upO, asks_oth, c_7, c_20], by simpa [upO, asks_oth, c_7, c_20] using hR⟩⟩
  · refine v_iconst (pc := 10) O (x := 1) dX5_up_10 (by decide) ?_
    refine v_goto (pc := 11) O (tgt := 28) dX5_up_11 (by decide) ?_
    refine vm_put (pc := 28) O hR 31 (by decide) q2074 dX5_up_28 (fun μ hR => ?_)
    refine v_aload_n (pc := 31) O dX5_up_31 rfl ?_
    refine vm_geti (pc := 32) O hR 31 rfl q2074 (x := 1) rfl sset_eq dX5_up_32 ?_
    refine v_if_le (pc := 35) (tgt := 40) O dX5_up_35 (by decide) (fun c => absurd c (by decide)) (fun _ => ?_)
    refine v_iconst (pc := 38) O (x := 0) dX5_up_38 (by decide) ?_
    exact v_iret (pc := 39) O hr (Nat.le_refl _) (Nat.le_refl _) dX5_up_39 ⟨_, rfl, ⟨by simp [upO, asks_oth, c_7], by simpa [upO, asks_oth, c_7] using hR⟩⟩
set_option maxHeartbeats 4000000 in
theorem mm_sync (l : Launch) (Γ : Gm) (ad : Nat → Nat) (x : Int32) {s : St} {μ0 : Mem} {B : Nat} (hW : WfM B s) (hR : RepM Γ ad s μ0) : MetV l Γ yX5_sync cX5_sync 4 (some .int) 3 0 0 [.ref (ad 0), .int x] μ0 (PI (fun r9 μ1 => r9 = (syncO s x).2 ∧ RepM Γ ad ((syncO s x).1) μ1)) := by
  refine MetV.of (by decide +kernel) rfl ?_
  intro X sz hl hr hnm O
  subst hl
  show V X Γ _ 4 _ 0 0 μ0 0 [(0, .ref (ad 0)), (1, .int x)] []
  refine v_aload_n (pc := 0) O dX5_sync_0 rfl ?_
  refine v_iload_n (pc := 1) O dX5_sync_1 rfl ?_
  refine v_iconst (pc := 2) O (x := 0) dX5_sync_2 (by decide) ?_
  refine v_iconst (pc := 3) O (x := 3) dX5_sync_3 (by decide) ?_
  refine v_callSi0 (pc := 4) (nA := 3) O (mm_in (xL X) Γ x 0 3 _) q2149 q2150 q71 q2151 (by decide +kernel) rfl rfl rfl rfl (Nat.le_of_ble_eq_true rfl) (Nat.le_refl _) (Nat.le_refl _) dX5_sync_4 (fun x μ1 h => ?_)
  obtain ⟨rfl, rfl⟩ := h
  refine v_if_ne_b (pc := 7) (tgt := 14) O dX5_sync_7 (by decide) (fun c_7 => ?_) (fun c_7 => ?_)
  · have h_x : ir x (nI 4) := ir_of (hi := 3) (by decide) (by decide) (by decide) c_7
    refine v_aload_n (pc := 14) O dX5_sync_14 rfl ?_
    refine vm_get (pc := 15) O hR 3 rfl q2046 rfl dX5_sync_15 ?_
    refine v_iload_n (pc := 18) O dX5_sync_18 rfl ?_
    refine vm_zald (pc := 19) O hR 3 rfl rfl h_x (x := (s 3 x)) rfl dX5_sync_19 ?_
    refine v_if_eq (pc := 20) (tgt := 27) O dX5_sync_20 (by decide) (fun c_20 => ?_) (fun c_20 => ?_)
    · refine v_iconst (pc := 27) O (x := 0) dX5_sync_27 (by decide) ?_
      refine vm_put (pc := 28) O hR 31 (by decide) q2074 dX5_sync_28 (fun μ hR => ?_)
      refine v_iconst (pc := 31) O (x := 0) dX5_sync_31 (by decide) ?_
      refine v_istore_n (pc := 32) (lv' := [(2, .int 0), (0, .ref (ad 0)), (1, .int x)]) O dX5_sync_32 rfl rfl ?_
      refine v_iconst (pc := 33) O (x := 0) dX5_sync_33 (by decide) ?_
      refine v_istore_n (pc := 34) (lv' := [(3, .int 0), (2, .int 0), (0, .ref (ad 0)), (1, .int x)]) O dX5_sync_34 rfl rfl ?_
      have L35 : ∀ (d35 j35 : Nat) (s35 : St) (v35_2 : Int32) (μ : Mem), 32 < d35 + j35 → j35 ≤ 32 → (s35, v35_2) = iter (syncStep x) j35 ((sset s 31 0 0), 0) → WfM B s35 → s35 31 0 = 0 → RepM Γ ad s35 μ → V X Γ (gA μ0 sz) 4 (QV X Γ μ0 sz (PI (fun r9 μ1 => r9 = (syncO s x).2 ∧ RepM Γ ad ((syncO s x).1) μ1)) 0 0) 0 0 μ 35 [(3, .int (nI j35)), (2, .int v35_2), (0, .ref (ad 0)), (1, .int x)] [] := by
        intro d35
        induction d35 with
        | zero => intro j35 s35 v35_2 μ h1 h2; exact absurd h1 (by omega)
        | succ d35 ih35 =>
          intro j35 s35 v35_2 μ hd hj35 he35 hWs35 hT35 hR
          refine v_iload_n (pc := 35) O dX5_sync_35 rfl ?_
          refine v_bipush (pc := 36) O (x := 32) dX5_sync_36 (by decide) ?_
          refine v_icmp_ge (pc := 38) (tgt := 92) O dX5_sync_38 (by decide) (fun c_38 => ?_) (fun c_38 => ?_)
          · have hx35 := lp_out rfl (by decide) hj35 c_38
            subst hx35
            refine v_iload_n (pc := 92) O dX5_sync_92 rfl ?_
            exact v_iret (pc := 93) O hr (Nat.le_refl _) (Nat.le_refl _) dX5_sync_93 ⟨_, rfl, ⟨by simp [syncO, c_7, c_20, c_38, ← he35], by simpa [syncO, c_7, c_20, c_38, ← he35] using hR⟩⟩
          · have hj35lt := lp_in rfl (by decide) hj35 c_38
            refine v_aload_n (pc := 41) O dX5_sync_41 rfl ?_
            refine vm_geti (pc := 42) O hR 31 rfl q2074 (x := (s35 31 0)) rfl rfl dX5_sync_42 ?_
            refine v_if_ne (pc := 45) (tgt := 92) O dX5_sync_45 (by decide) (fun c_45 => ?_) (fun c_45 => ?_)
            · exact absurd hT35 c_45
            · refine v_aload_n (pc := 48) O dX5_sync_48 rfl ?_
              refine v_iload_n (pc := 49) O dX5_sync_49 rfl ?_
              refine v_callVi0 (pc := 50) (nA := 1) O (mm_nodeOf (xL X) Γ ad (nI j35) hWs35 hR) hR.1 rfl q2179 q2181 qs23 q71 q2182 (by decide +kernel) rfl rfl rfl rfl (Nat.le_of_ble_eq_true rfl) (Nat.le_refl _) (Nat.le_refl _) dX5_sync_50 (fun x μ h => ?_)
              obtain ⟨rfl, hR⟩ := h
              refine v_iload_n (pc := 53) O dX5_sync_53 rfl ?_
              refine v_icmp_ne (pc := 54) (tgt := 86) O dX5_sync_54 (by decide) (fun c_54 => ?_) (fun c_54 => ?_)
              · refine v_iinc (pc := 86) (y := (nI (j35 + 1))) (lv' := [(3, .int (nI (j35 + 1))), (2, .int v35_2), (0, .ref (ad 0)), (1, .int x)]) O dX5_sync_86 rfl (nI_inc _) rfl rfl ?_
                refine v_goto (pc := 89) O (tgt := 35) dX5_sync_89 (by decide) ?_
                exact v_locs [0, 1, 2, 3] rfl (ih35 (j35 + 1) s35 v35_2 _ (by omega) (by omega) (by rw [iter_s, ← he35]; simp [syncStep, c_38, c_45, c_54]) hWs35 (by first | exact hT35 | (rw [sset_f (by decide)]; exact hT35)) hR)
              · refine v_aload_n (pc := 57) O dX5_sync_57 rfl ?_
                refine vm_get (pc := 58) O hR 7 rfl q2050 rfl dX5_sync_58 ?_
                refine v_iload_n (pc := 61) O dX5_sync_61 rfl ?_
                refine vm_iald (pc := 62) O hR 7 rfl rfl (ir_nI hj35lt (by decide)) (x := (s35 7 (nI j35))) rfl dX5_sync_62 ?_
                refine v_iconst (pc := 63) O (x := -1) dX5_sync_63 (by decide) ?_
                refine v_icmp_eq (pc := 64) (tgt := 86) O dX5_sync_64 (by decide) (fun c_64 => ?_) (fun c_64 => ?_)
                · refine v_iinc (pc := 86) (y := (nI (j35 + 1))) (lv' := [(3, .int (nI (j35 + 1))), (2, .int v35_2), (0, .ref (ad 0)), (1, .int x)]) O dX5_sync_86 rfl (nI_inc _) rfl rfl ?_
                  refine v_goto (pc := 89) O (tgt := 35) dX5_sync_89 (by decide) ?_
                  exact v_locs [0, 1, 2, 3] rfl (ih35 (j35 + 1) s35 v35_2 _ (by omega) (by omega) (by rw [iter_s, ← he35]; simp [syncStep, c_38, c_45, c_54, c_64]) hWs35 (by first | exact hT35 | (rw [sset_f (by decide)]; exact hT35)) hR)
                · refine v_aload_n (pc := 67) O dX5_sync_67 rfl ?_
                  refine vm_get (pc := 68) O hR 8 rfl q2051 rfl dX5_sync_68 ?_
                  refine v_iload_n (pc := 71) O dX5_sync_71 rfl ?_
                  refine vm_zald (pc := 72) O hR 8 rfl rfl (ir_nI hj35lt (by decide)) (x := (s35 8 (nI j35))) rfl dX5_sync_72 ?_
                  refine v_if_ne (pc := 73) (tgt := 86) O dX5_sync_73 (by decide) (fun c_73 => ?_) (fun c_73 => ?_)
                  · refine v_iinc (pc := 86) (y := (nI (j35 + 1))) (lv' := [(3, .int (nI (j35 + 1))), (2, .int v35_2), (0, .ref (ad 0)), (1, .int x)]) O dX5_sync_86 rfl (nI_inc _) rfl rfl ?_
                    refine v_goto (pc := 89) O (tgt := 35) dX5_sync_89 (by decide) ?_
                    exact v_locs [0, 1, 2, 3] rfl (ih35 (j35 + 1) s35 v35_2 _ (by omega) (by omega) (by rw [iter_s, ← he35]; simp [syncStep, c_38, c_45, c_54, c_64, c_73]) hWs35 (by first | exact hT35 | (rw [sset_f (by decide)]; exact hT35)) hR)
                  · refine v_aload_n (pc := 76) O dX5_sync_76 rfl ?_
                    refine vm_get (pc := 77) O hR 8 rfl q2051 rfl dX5_sync_77 ?_
                    refine v_iload_n (pc := 80) O dX5_sync_80 rfl ?_
                    refine v_iconst (pc := 81) O (x := 1) dX5_sync_81 (by decide) ?_
                    refine vm_zast (pc := 82) O hR 8 rfl rfl (ir_nI hj35lt (by decide)) rfl dX5_sync_82 (fun μ hR => ?_)
                    refine v_iinc (pc := 83) (y := (v35_2 + 1)) (lv' := [(2, .int (v35_2 + 1)), (3, .int (nI j35)), (0, .ref (ad 0)), (1, .int x)]) O dX5_sync_83 rfl rfl rfl rfl ?_
                    refine v_iinc (pc := 86) (y := (nI (j35 + 1))) (lv' := [(3, .int (nI (j35 + 1))), (2, .int (v35_2 + 1)), (0, .ref (ad 0)), (1, .int x)]) O dX5_sync_86 rfl (nI_inc _) rfl rfl ?_
                    refine v_goto (pc := 89) O (tgt := 35) dX5_sync_89 (by decide) ?_
                    exact v_locs [0, 1, 2, 3] rfl (ih35 (j35 + 1) (sset s35 8 (nI j35) 1) (v35_2 + 1) _ (by omega) (by omega) (by rw [iter_s, ← he35]; simp [syncStep, c_38, c_45, c_54, c_64, c_73]) (WfM.oth hWs35 (by decide)) (by first | exact hT35 | (rw [sset_f (by decide)]; exact hT35)) hR)
      exact v_locs [0, 1, 2, 3] rfl (L35 (32 + 1) 0 (sset s 31 0 0) 0 _ (by omega) (by omega) iter_0.symm (WfM.oth hW (by decide)) sset_eq hR)
    · refine v_iconst (pc := 23) O (x := 2) dX5_sync_23 (by decide) ?_
      refine v_goto (pc := 24) O (tgt := 28) dX5_sync_24 (by decide) ?_
      refine vm_put (pc := 28) O hR 31 (by decide) q2074 dX5_sync_28 (fun μ hR => ?_)
      refine v_iconst (pc := 31) O (x := 0) dX5_sync_31 (by decide) ?_
      refine v_istore_n (pc := 32) (lv' := [(2, .int 0), (0, .ref (ad 0)), (1, .int x)]) O dX5_sync_32 rfl rfl ?_
      refine v_iconst (pc := 33) O (x := 0) dX5_sync_33 (by decide) ?_
      refine v_istore_n (pc := 34) (lv' := [(3, .int 0), (2, .int 0), (0, .ref (ad 0)), (1, .int x)]) O dX5_sync_34 rfl rfl ?_
      refine v_iload_n (pc := 35) O dX5_sync_35 rfl ?_
      refine v_bipush (pc := 36) O (x := 32) dX5_sync_36 (by decide) ?_
      refine v_icmp_ge (pc := 38) (tgt := 92) O dX5_sync_38 (by decide) (fun c => absurd c (by decide)) (fun _ => ?_)
      refine v_aload_n (pc := 41) O dX5_sync_41 rfl ?_
      refine vm_geti (pc := 42) O hR 31 rfl q2074 (x := 2) rfl sset_eq dX5_sync_42 ?_
      refine v_if_ne (pc := 45) (tgt := 92) O dX5_sync_45 (by decide) (fun _ => ?_) (fun c => absurd c (by decide))
      refine v_iload_n (pc := 92) O dX5_sync_92 rfl ?_
      exact v_iret (pc := 93) O hr (Nat.le_refl _) (Nat.le_refl _) dX5_sync_93 ⟨_, rfl, ⟨by simp [syncO, c_7, c_20], by simpa [syncO, c_7, c_20] using hR⟩⟩
  · refine v_iconst (pc := 10) O (x := 1) dX5_sync_10 (by decide) ?_
    refine v_goto (pc := 11) O (tgt := 28) dX5_sync_11 (by decide) ?_
    refine vm_put (pc := 28) O hR 31 (by decide) q2074 dX5_sync_28 (fun μ hR => ?_)
    refine v_iconst (pc := 31) O (x := 0) dX5_sync_31 (by decide) ?_
    refine v_istore_n (pc := 32) (lv' := [(2, .int 0), (0, .ref (ad 0)), (1, .int x)]) O dX5_sync_32 rfl rfl ?_
    refine v_iconst (pc := 33) O (x := 0) dX5_sync_33 (by decide) ?_
    refine v_istore_n (pc := 34) (lv' := [(3, .int 0), (2, .int 0), (0, .ref (ad 0)), (1, .int x)]) O dX5_sync_34 rfl rfl ?_
    refine v_iload_n (pc := 35) O dX5_sync_35 rfl ?_
    refine v_bipush (pc := 36) O (x := 32) dX5_sync_36 (by decide) ?_
    refine v_icmp_ge (pc := 38) (tgt := 92) O dX5_sync_38 (by decide) (fun c => absurd c (by decide)) (fun _ => ?_)
    refine v_aload_n (pc := 41) O dX5_sync_41 rfl ?_
    refine vm_geti (pc := 42) O hR 31 rfl q2074 (x := 1) rfl sset_eq dX5_sync_42 ?_
    refine v_if_ne (pc := 45) (tgt := 92) O dX5_sync_45 (by decide) (fun _ => ?_) (fun c => absurd c (by decide))
    refine v_iload_n (pc := 92) O dX5_sync_92 rfl ?_
    exact v_iret (pc := 93) O hr (Nat.le_refl _) (Nat.le_refl _) dX5_sync_93 ⟨_, rfl, ⟨by simp [syncO, c_7], by simpa [syncO, c_7] using hR⟩⟩
set_option maxHeartbeats 4000000 in
theorem mm_forgets (l : Launch) (Γ : Gm) (ad : Nat → Nat) (t : Int32) {s : St} {μ0 : Mem} (h_t : ir t (nI 40)) (hR : RepM Γ ad s μ0) : MetV l Γ yX5_forgets cX5_forgets 3 none 1 0 0 [.ref (ad 0), .int t] μ0 (PV (fun μ1 => RepM Γ ad (forgetsS s t) μ1)) := by
  refine MetV.of (by decide +kernel) rfl ?_
  intro X sz hl hr hnm O
  subst hl
  show V X Γ _ 3 _ 0 0 μ0 0 [(0, .ref (ad 0)), (1, .int t)] []
  refine v_iconst (pc := 0) O (x := 0) dX5_forgets_0 (by decide) ?_
  refine v_istore_n (pc := 1) (lv' := [(2, .int 0), (0, .ref (ad 0)), (1, .int t)]) O dX5_forgets_1 rfl rfl ?_
  have L2 : ∀ (d2 j2 : Nat) (s2 : St) (μ : Mem), 32 < d2 + j2 → j2 ≤ 32 → s2 = iter (forgStep t) j2 s → RepM Γ ad s2 μ → V X Γ (gA μ0 sz) 3 (QV X Γ μ0 sz (PV (fun μ1 => RepM Γ ad (forgetsS s t) μ1)) 0 0) 0 0 μ 2 [(2, .int (nI j2)), (0, .ref (ad 0)), (1, .int t)] [] := by
    intro d2
    induction d2 with
    | zero => intro j2 s2 μ h1 h2; exact absurd h1 (by omega)
    | succ d2 ih2 =>
      intro j2 s2 μ hd hj2 he2  hR
      refine v_iload_n (pc := 2) O dX5_forgets_2 rfl ?_
      refine v_bipush (pc := 3) O (x := 32) dX5_forgets_3 (by decide) ?_
      refine v_icmp_ge (pc := 5) (tgt := 38) O dX5_forgets_5 (by decide) (fun c_5 => ?_) (fun c_5 => ?_)
      · have hx2 := lp_out rfl (by decide) hj2 c_5
        subst hx2
        exact v_vret (pc := 38) O hr (Nat.le_refl _) (Nat.le_refl _) dX5_forgets_38 ⟨rfl, by simpa [forgetsS, c_5, ← he2] using hR⟩
      · have hj2lt := lp_in rfl (by decide) hj2 c_5
        refine v_aload_n (pc := 8) O dX5_forgets_8 rfl ?_
        refine vm_get (pc := 9) O hR 28 rfl q2071 rfl dX5_forgets_9 ?_
        refine v_bipush (pc := 12) O (x := 32) dX5_forgets_12 (by decide) ?_
        refine v_iload_n (pc := 14) O dX5_forgets_14 rfl ?_
        refine v_imul (pc := 15) O dX5_forgets_15 ?_
        refine v_iload_n (pc := 16) O dX5_forgets_16 rfl ?_
        refine v_iadd (pc := 17) O dX5_forgets_17 ?_
        refine v_iconst (pc := 18) O (x := -1) dX5_forgets_18 (by decide) ?_
        refine vm_iast (pc := 19) O hR 28 rfl rfl (ir_32 h_t hj2lt) dX5_forgets_19 (fun μ hR => ?_)
        refine v_aload_n (pc := 20) O dX5_forgets_20 rfl ?_
        refine vm_get (pc := 21) O hR 29 rfl q2072 rfl dX5_forgets_21 ?_
        refine v_bipush (pc := 24) O (x := 32) dX5_forgets_24 (by decide) ?_
        refine v_iload_n (pc := 26) O dX5_forgets_26 rfl ?_
        refine v_imul (pc := 27) O dX5_forgets_27 ?_
        refine v_iload_n (pc := 28) O dX5_forgets_28 rfl ?_
        refine v_iadd (pc := 29) O dX5_forgets_29 ?_
        refine v_iconst (pc := 30) O (x := -1) dX5_forgets_30 (by decide) ?_
        refine vm_iast (pc := 31) O hR 29 rfl rfl (ir_32 h_t hj2lt) dX5_forgets_31 (fun μ hR => ?_)
        refine v_iinc (pc := 32) (y := (nI (j2 + 1))) (lv' := [(2, .int (nI (j2 + 1))), (0, .ref (ad 0)), (1, .int t)]) O dX5_forgets_32 rfl (nI_inc _) rfl rfl ?_
        refine v_goto (pc := 35) O (tgt := 2) dX5_forgets_35 (by decide) ?_
        exact v_locs [0, 1, 2] rfl (ih2 (j2 + 1) (sset (sset s2 28 ((32 * t) + (nI j2)) (-1)) 29 ((32 * t) + (nI j2)) (-1)) _ (by omega) (by omega) (by rw [iter_s, ← he2]; simp [forgStep, c_5])  hR)
  exact v_locs [0, 1, 2] rfl (L2 (32 + 1) 0 s _ (by omega) (by omega) iter_0.symm  hR)
set_option maxHeartbeats 4000000 in
theorem mm_isVanished (l : Launch) (Γ : Gm) (ad : Nat → Nat) (t : Int32) {s : St} {μ0 : Mem} (h_t : ir t (nI 40)) (hR : RepM Γ ad s μ0) : MetV l Γ yX5_isVanished cX5_isVanished 2 (some .boolean) 1 0 0 [.ref (ad 0), .int t] μ0 (PI (fun r9 μ1 => r9 = (b2i (vanB s t)) ∧ RepM Γ ad s μ1)) := by
  refine MetV.of (by decide +kernel) rfl ?_
  intro X sz hl hr hnm O
  subst hl
  show V X Γ _ 2 _ 0 0 μ0 0 [(0, .ref (ad 0)), (1, .int t)] []
  refine v_aload_n (pc := 0) O dX5_isVanished_0 rfl ?_
  refine vm_get (pc := 1) O hR 23 rfl q2066 rfl dX5_isVanished_1 ?_
  refine v_iload_n (pc := 4) O dX5_isVanished_4 rfl ?_
  refine vm_iald (pc := 5) O hR 23 rfl rfl h_t (x := (s 23 t)) rfl dX5_isVanished_5 ?_
  refine v_if_eq (pc := 6) (tgt := 19) O dX5_isVanished_6 (by decide) (fun c_6 => ?_) (fun c_6 => ?_)
  · refine v_aload_n (pc := 19) O dX5_isVanished_19 rfl ?_
    refine vm_geti (pc := 20) O hR 0 rfl q2043 (x := (s 0 0)) rfl rfl dX5_isVanished_20 ?_
    refine v_aload_n (pc := 23) O dX5_isVanished_23 rfl ?_
    refine vm_get (pc := 24) O hR 22 rfl q2065 rfl dX5_isVanished_24 ?_
    refine v_iload_n (pc := 27) O dX5_isVanished_27 rfl ?_
    refine vm_iald (pc := 28) O hR 22 rfl rfl h_t (x := (s 22 t)) rfl dX5_isVanished_28 ?_
    refine v_bipush (pc := 29) O (x := 20) dX5_isVanished_29 (by decide) ?_
    refine v_iadd (pc := 31) O dX5_isVanished_31 ?_
    refine v_icmp_le (pc := 32) (tgt := 39) O dX5_isVanished_32 (by decide) (fun c_32 => ?_) (fun c_32 => ?_)
    · refine v_iconst (pc := 39) O (x := 0) dX5_isVanished_39 (by decide) ?_
      exact v_zret (pc := 40) O hr (Nat.le_refl _) (Nat.le_refl _) dX5_isVanished_40 rfl ⟨_, rfl, ⟨by simp [vanB, b2i, c_6, c_32], by simpa [vanB, b2i, c_6, c_32] using hR⟩⟩
    · refine v_iconst (pc := 35) O (x := 1) dX5_isVanished_35 (by decide) ?_
      refine v_goto (pc := 36) O (tgt := 40) dX5_isVanished_36 (by decide) ?_
      exact v_zret (pc := 40) O hr (Nat.le_refl _) (Nat.le_refl _) dX5_isVanished_40 rfl ⟨_, rfl, ⟨by simp [vanB, b2i, c_6, c_32], by simpa [vanB, b2i, c_6, c_32] using hR⟩⟩
  · refine v_aload_n (pc := 9) O dX5_isVanished_9 rfl ?_
    refine vm_get (pc := 10) O hR 23 rfl q2066 rfl dX5_isVanished_10 ?_
    refine v_iload_n (pc := 13) O dX5_isVanished_13 rfl ?_
    refine vm_iald (pc := 14) O hR 23 rfl rfl h_t (x := (s 23 t)) rfl dX5_isVanished_14 ?_
    refine v_iconst (pc := 15) O (x := 1) dX5_isVanished_15 (by decide) ?_
    refine v_icmp_ne (pc := 16) (tgt := 39) O dX5_isVanished_16 (by decide) (fun c_16 => ?_) (fun c_16 => ?_)
    · refine v_iconst (pc := 39) O (x := 0) dX5_isVanished_39 (by decide) ?_
      exact v_zret (pc := 40) O hr (Nat.le_refl _) (Nat.le_refl _) dX5_isVanished_40 rfl ⟨_, rfl, ⟨by simp [vanB, b2i, c_6, c_16], by simpa [vanB, b2i, c_6, c_16] using hR⟩⟩
    · refine v_aload_n (pc := 19) O dX5_isVanished_19 rfl ?_
      refine vm_geti (pc := 20) O hR 0 rfl q2043 (x := (s 0 0)) rfl rfl dX5_isVanished_20 ?_
      refine v_aload_n (pc := 23) O dX5_isVanished_23 rfl ?_
      refine vm_get (pc := 24) O hR 22 rfl q2065 rfl dX5_isVanished_24 ?_
      refine v_iload_n (pc := 27) O dX5_isVanished_27 rfl ?_
      refine vm_iald (pc := 28) O hR 22 rfl rfl h_t (x := (s 22 t)) rfl dX5_isVanished_28 ?_
      refine v_bipush (pc := 29) O (x := 20) dX5_isVanished_29 (by decide) ?_
      refine v_iadd (pc := 31) O dX5_isVanished_31 ?_
      refine v_icmp_le (pc := 32) (tgt := 39) O dX5_isVanished_32 (by decide) (fun c_32 => ?_) (fun c_32 => ?_)
      · refine v_iconst (pc := 39) O (x := 0) dX5_isVanished_39 (by decide) ?_
        exact v_zret (pc := 40) O hr (Nat.le_refl _) (Nat.le_refl _) dX5_isVanished_40 rfl ⟨_, rfl, ⟨by simp [vanB, b2i, c_6, c_16, c_32], by simpa [vanB, b2i, c_6, c_16, c_32] using hR⟩⟩
      · refine v_iconst (pc := 35) O (x := 1) dX5_isVanished_35 (by decide) ?_
        refine v_goto (pc := 36) O (tgt := 40) dX5_isVanished_36 (by decide) ?_
        exact v_zret (pc := 40) O hr (Nat.le_refl _) (Nat.le_refl _) dX5_isVanished_40 rfl ⟨_, rfl, ⟨by simp [vanB, b2i, c_6, c_16, c_32], by simpa [vanB, b2i, c_6, c_16, c_32] using hR⟩⟩
set_option maxHeartbeats 4000000 in
theorem mm_latest (l : Launch) (Γ : Gm) (ad : Nat → Nat) (key st : Int32) {s : St} {μ0 : Mem} {B : Nat} (hB : B ≤ 1000) (hW : WfM B s) (hR : RepM Γ ad s μ0) : MetV l Γ yX5_latest cX5_latest 5 (some .int) 2 0 0 [.ref (ad 0), .int key, .int st] μ0 (PI (fun r9 μ1 => r9 = (latestF s key st) ∧ RepM Γ ad s μ1)) := by
  refine MetV.of (by decide +kernel) rfl ?_
  intro X sz hl hr hnm O
  subst hl
  show V X Γ _ 5 _ 0 0 μ0 0 [(0, .ref (ad 0)), (1, .int key), (2, .int st)] []
  refine v_iconst (pc := 0) O (x := -1) dX5_latest_0 (by decide) ?_
  refine v_istore_n (pc := 1) (lv' := [(3, .int (-1)), (0, .ref (ad 0)), (1, .int key), (2, .int st)]) O dX5_latest_1 rfl rfl ?_
  refine v_iconst (pc := 2) O (x := 0) dX5_latest_2 (by decide) ?_
  refine v_istore (pc := 3) (lv' := [(4, .int 0), (3, .int (-1)), (0, .ref (ad 0)), (1, .int key), (2, .int st)]) O dX5_latest_3 rfl rfl ?_
  have L5 : ∀ (d5 j5 : Nat) (v5_3 : Int32) (μ : Mem), nat (s 12 0) < d5 + j5 → j5 ≤ nat (s 12 0) → v5_3 = iter (latStep s key st) j5 (-1) → RepM Γ ad s μ → V X Γ (gA μ0 sz) 5 (QV X Γ μ0 sz (PI (fun r9 μ1 => r9 = (latestF s key st) ∧ RepM Γ ad s μ1)) 0 0) 0 0 μ 5 [(4, .int (nI j5)), (3, .int v5_3), (0, .ref (ad 0)), (1, .int key), (2, .int st)] [] := by
    intro d5
    induction d5 with
    | zero => intro j5 v5_3 μ h1 h2; exact absurd h1 (by omega)
    | succ d5 ih5 =>
      intro j5 v5_3 μ hd hj5 he5  hR
      refine v_iload (pc := 5) O dX5_latest_5 rfl ?_
      refine v_aload_n (pc := 7) O dX5_latest_7 rfl ?_
      refine vm_geti (pc := 8) O hR 12 rfl q2055 (x := (s 12 0)) rfl rfl dX5_latest_8 ?_
      refine v_icmp_ge (pc := 11) (tgt := 58) O dX5_latest_11 (by decide) (fun c_11 => ?_) (fun c_11 => ?_)
      · have hx5 := lp_out (nat_eq hW.2.2.2.2.2.2.1) (nat_lt _) hj5 c_11
        subst hx5
        refine v_iload_n (pc := 58) O dX5_latest_58 rfl ?_
        exact v_iret (pc := 59) O hr (Nat.le_refl _) (Nat.le_refl _) dX5_latest_59 ⟨_, rfl, ⟨by simp [latestF, c_11, ← he5], by simpa [latestF, c_11, ← he5] using hR⟩⟩
      · have hj5lt := lp_in (nat_eq hW.2.2.2.2.2.2.1) (nat_lt _) hj5 c_11
        refine v_aload_n (pc := 14) O dX5_latest_14 rfl ?_
        refine vm_get (pc := 15) O hR 13 rfl q2056 rfl dX5_latest_15 ?_
        refine v_iload (pc := 18) O dX5_latest_18 rfl ?_
        refine vm_iald (pc := 20) O hR 13 rfl rfl (ir_nI (Nat.lt_of_lt_of_le hj5lt (hW.v13 hB)) (by decide)) (x := (s 13 (nI j5))) rfl dX5_latest_20 ?_
        refine v_iload_n (pc := 21) O dX5_latest_21 rfl ?_
        refine v_icmp_ne (pc := 22) (tgt := 50) O dX5_latest_22 (by decide) (fun c_22 => ?_) (fun c_22 => ?_)
        · refine v_iload_n (pc := 50) O dX5_latest_50 rfl ?_
          refine v_istore_n (pc := 51) (lv' := [(3, .int v5_3), (4, .int (nI j5)), (0, .ref (ad 0)), (1, .int key), (2, .int st)]) O dX5_latest_51 rfl rfl ?_
          refine v_iinc (pc := 52) (y := (nI (j5 + 1))) (lv' := [(4, .int (nI (j5 + 1))), (3, .int v5_3), (0, .ref (ad 0)), (1, .int key), (2, .int st)]) O dX5_latest_52 rfl (nI_inc _) rfl rfl ?_
          refine v_goto (pc := 55) O (tgt := 5) dX5_latest_55 (by decide) ?_
          exact v_locs [0, 1, 2, 3, 4] rfl (ih5 (j5 + 1) v5_3 _ (by omega) (by omega) (by rw [iter_s, ← he5]; simp [latStep, c_11, c_22])  hR)
        · refine v_aload_n (pc := 25) O dX5_latest_25 rfl ?_
          refine vm_get (pc := 26) O hR 14 rfl q2057 rfl dX5_latest_26 ?_
          refine v_iload (pc := 29) O dX5_latest_29 rfl ?_
          refine vm_iald (pc := 31) O hR 14 rfl rfl (ir_nI (Nat.lt_of_lt_of_le hj5lt (hW.v13 hB)) (by decide)) (x := (s 14 (nI j5))) rfl dX5_latest_31 ?_
          refine v_iload_n (pc := 32) O dX5_latest_32 rfl ?_
          refine v_icmp_gt (pc := 33) (tgt := 50) O dX5_latest_33 (by decide) (fun c_33 => ?_) (fun c_33 => ?_)
          · refine v_iload_n (pc := 50) O dX5_latest_50 rfl ?_
            refine v_istore_n (pc := 51) (lv' := [(3, .int v5_3), (4, .int (nI j5)), (0, .ref (ad 0)), (1, .int key), (2, .int st)]) O dX5_latest_51 rfl rfl ?_
            refine v_iinc (pc := 52) (y := (nI (j5 + 1))) (lv' := [(4, .int (nI (j5 + 1))), (3, .int v5_3), (0, .ref (ad 0)), (1, .int key), (2, .int st)]) O dX5_latest_52 rfl (nI_inc _) rfl rfl ?_
            refine v_goto (pc := 55) O (tgt := 5) dX5_latest_55 (by decide) ?_
            exact v_locs [0, 1, 2, 3, 4] rfl (ih5 (j5 + 1) v5_3 _ (by omega) (by omega) (by rw [iter_s, ← he5]; simp [latStep, c_11, c_22, c_33])  hR)
          · refine v_iload_n (pc := 36) O dX5_latest_36 rfl ?_
            refine v_aload_n (pc := 37) O dX5_latest_37 rfl ?_
            refine vm_get (pc := 38) O hR 14 rfl q2057 rfl dX5_latest_38 ?_
            refine v_iload (pc := 41) O dX5_latest_41 rfl ?_
            refine vm_iald (pc := 43) O hR 14 rfl rfl (ir_nI (Nat.lt_of_lt_of_le hj5lt (hW.v13 hB)) (by decide)) (x := (s 14 (nI j5))) rfl dX5_latest_43 ?_
            refine v_callSi0 (pc := 44) (nA := 2) O (mm_greater (xL X) Γ v5_3 (s 14 (nI j5)) _) q2164 q2165 q71 q2166 (by decide +kernel) rfl rfl rfl rfl (Nat.le_of_ble_eq_true rfl) (Nat.le_refl _) (Nat.le_refl _) dX5_latest_44 (fun x μ1 h => ?_)
            obtain ⟨rfl, rfl⟩ := h
            refine v_goto (pc := 47) O (tgt := 51) dX5_latest_47 (by decide) ?_
            refine v_istore_n (pc := 51) (lv' := [(3, .int (gt2 v5_3 (s 14 (nI j5)))), (4, .int (nI j5)), (0, .ref (ad 0)), (1, .int key), (2, .int st)]) O dX5_latest_51 rfl rfl ?_
            refine v_iinc (pc := 52) (y := (nI (j5 + 1))) (lv' := [(4, .int (nI (j5 + 1))), (3, .int (gt2 v5_3 (s 14 (nI j5)))), (0, .ref (ad 0)), (1, .int key), (2, .int st)]) O dX5_latest_52 rfl (nI_inc _) rfl rfl ?_
            refine v_goto (pc := 55) O (tgt := 5) dX5_latest_55 (by decide) ?_
            exact v_locs [0, 1, 2, 3, 4] rfl (ih5 (j5 + 1) (gt2 v5_3 (s 14 (nI j5))) _ (by omega) (by omega) (by rw [iter_s, ← he5]; simp [latStep, c_11, c_22, c_33])  hR)
  exact v_locs [0, 1, 2, 3, 4] rfl (L5 (nat (s 12 0) + 1) 0 (-1) _ (by omega) (by omega) iter_0.symm  hR)
set_option maxHeartbeats 4000000 in
theorem mm_valueAt (l : Launch) (Γ : Gm) (ad : Nat → Nat) (key st : Int32) {s : St} {μ0 : Mem} {B : Nat} (hB : B ≤ 1000) (hW : WfM B s) (hR : RepM Γ ad s μ0) : MetV l Γ yX5_valueAt cX5_valueAt 6 (some .int) 3 0 0 [.ref (ad 0), .int key, .int st] μ0 (PI (fun r9 μ1 => r9 = (valueAtF s key st) ∧ RepM Γ ad s μ1)) := by
  refine MetV.of (by decide +kernel) rfl ?_
  intro X sz hl hr hnm O
  subst hl
  show V X Γ _ 6 _ 0 0 μ0 0 [(0, .ref (ad 0)), (1, .int key), (2, .int st)] []
  refine v_aload_n (pc := 0) O dX5_valueAt_0 rfl ?_
  refine v_iload_n (pc := 1) O dX5_valueAt_1 rfl ?_
  refine v_iload_n (pc := 2) O dX5_valueAt_2 rfl ?_
  refine v_callVi0 (pc := 3) (nA := 2) O (mm_latest (xL X) Γ ad key st hB hW hR) hR.1 rfl q2263 q2265 qs37 q71 q2266 (by decide +kernel) rfl rfl rfl rfl (Nat.le_of_ble_eq_true rfl) (Nat.le_refl _) (Nat.le_refl _) dX5_valueAt_3 (fun x μ h => ?_)
  obtain ⟨rfl, hR⟩ := h
  refine v_istore_n (pc := 6) (lv' := [(3, .int (latestF s key st)), (0, .ref (ad 0)), (1, .int key), (2, .int st)]) O dX5_valueAt_6 rfl rfl ?_
  refine v_sipush (pc := 7) O (x := 1000) dX5_valueAt_7 (by decide) ?_
  refine v_istore (pc := 10) (lv' := [(4, .int 1000), (3, .int (latestF s key st)), (0, .ref (ad 0)), (1, .int key), (2, .int st)]) O dX5_valueAt_10 rfl rfl ?_
  refine v_iconst (pc := 12) O (x := 0) dX5_valueAt_12 (by decide) ?_
  refine v_istore (pc := 13) (lv' := [(5, .int 0), (4, .int 1000), (3, .int (latestF s key st)), (0, .ref (ad 0)), (1, .int key), (2, .int st)]) O dX5_valueAt_13 rfl rfl ?_
  have L15 : ∀ (d15 j15 : Nat) (v15_4 : Int32) (μ : Mem), nat (s 12 0) < d15 + j15 → j15 ≤ nat (s 12 0) → v15_4 = iter (valStep s key (latestF s key st)) j15 1000 → RepM Γ ad s μ → V X Γ (gA μ0 sz) 6 (QV X Γ μ0 sz (PI (fun r9 μ1 => r9 = (valueAtF s key st) ∧ RepM Γ ad s μ1)) 0 0) 0 0 μ 15 [(5, .int (nI j15)), (4, .int v15_4), (3, .int (latestF s key st)), (0, .ref (ad 0)), (1, .int key), (2, .int st)] [] := by
    intro d15
    induction d15 with
    | zero => intro j15 v15_4 μ h1 h2; exact absurd h1 (by omega)
    | succ d15 ih15 =>
      intro j15 v15_4 μ hd hj15 he15  hR
      refine v_iload (pc := 15) O dX5_valueAt_15 rfl ?_
      refine v_aload_n (pc := 17) O dX5_valueAt_17 rfl ?_
      refine vm_geti (pc := 18) O hR 12 rfl q2055 (x := (s 12 0)) rfl rfl dX5_valueAt_18 ?_
      refine v_icmp_ge (pc := 21) (tgt := 66) O dX5_valueAt_21 (by decide) (fun c_21 => ?_) (fun c_21 => ?_)
      · have hx15 := lp_out (nat_eq hW.2.2.2.2.2.2.1) (nat_lt _) hj15 c_21
        subst hx15
        refine v_iload (pc := 66) O dX5_valueAt_66 rfl ?_
        exact v_iret (pc := 68) O hr (Nat.le_refl _) (Nat.le_refl _) dX5_valueAt_68 ⟨_, rfl, ⟨by simp [valueAtF, c_21, ← he15], by simpa [valueAtF, c_21, ← he15] using hR⟩⟩
      · have hj15lt := lp_in (nat_eq hW.2.2.2.2.2.2.1) (nat_lt _) hj15 c_21
        refine v_aload_n (pc := 24) O dX5_valueAt_24 rfl ?_
        refine vm_get (pc := 25) O hR 13 rfl q2056 rfl dX5_valueAt_25 ?_
        refine v_iload (pc := 28) O dX5_valueAt_28 rfl ?_
        refine vm_iald (pc := 30) O hR 13 rfl rfl (ir_nI (Nat.lt_of_lt_of_le hj15lt (hW.v13 hB)) (by decide)) (x := (s 13 (nI j15))) rfl dX5_valueAt_30 ?_
        refine v_iload_n (pc := 31) O dX5_valueAt_31 rfl ?_
        refine v_icmp_ne (pc := 32) (tgt := 56) O dX5_valueAt_32 (by decide) (fun c_32 => ?_) (fun c_32 => ?_)
        · refine v_iload (pc := 56) O dX5_valueAt_56 rfl ?_
          refine v_istore (pc := 58) (lv' := [(4, .int v15_4), (5, .int (nI j15)), (3, .int (latestF s key st)), (0, .ref (ad 0)), (1, .int key), (2, .int st)]) O dX5_valueAt_58 rfl rfl ?_
          refine v_iinc (pc := 60) (y := (nI (j15 + 1))) (lv' := [(5, .int (nI (j15 + 1))), (4, .int v15_4), (3, .int (latestF s key st)), (0, .ref (ad 0)), (1, .int key), (2, .int st)]) O dX5_valueAt_60 rfl (nI_inc _) rfl rfl ?_
          refine v_goto (pc := 63) O (tgt := 15) dX5_valueAt_63 (by decide) ?_
          exact v_locs [0, 1, 2, 3, 4, 5] rfl (ih15 (j15 + 1) v15_4 _ (by omega) (by omega) (by rw [iter_s, ← he15]; simp [valStep, c_21, c_32])  hR)
        · refine v_aload_n (pc := 35) O dX5_valueAt_35 rfl ?_
          refine vm_get (pc := 36) O hR 14 rfl q2057 rfl dX5_valueAt_36 ?_
          refine v_iload (pc := 39) O dX5_valueAt_39 rfl ?_
          refine vm_iald (pc := 41) O hR 14 rfl rfl (ir_nI (Nat.lt_of_lt_of_le hj15lt (hW.v13 hB)) (by decide)) (x := (s 14 (nI j15))) rfl dX5_valueAt_41 ?_
          refine v_iload_n (pc := 42) O dX5_valueAt_42 rfl ?_
          refine v_icmp_ne (pc := 43) (tgt := 56) O dX5_valueAt_43 (by decide) (fun c_43 => ?_) (fun c_43 => ?_)
          · refine v_iload (pc := 56) O dX5_valueAt_56 rfl ?_
            refine v_istore (pc := 58) (lv' := [(4, .int v15_4), (5, .int (nI j15)), (3, .int (latestF s key st)), (0, .ref (ad 0)), (1, .int key), (2, .int st)]) O dX5_valueAt_58 rfl rfl ?_
            refine v_iinc (pc := 60) (y := (nI (j15 + 1))) (lv' := [(5, .int (nI (j15 + 1))), (4, .int v15_4), (3, .int (latestF s key st)), (0, .ref (ad 0)), (1, .int key), (2, .int st)]) O dX5_valueAt_60 rfl (nI_inc _) rfl rfl ?_
            refine v_goto (pc := 63) O (tgt := 15) dX5_valueAt_63 (by decide) ?_
            exact v_locs [0, 1, 2, 3, 4, 5] rfl (ih15 (j15 + 1) v15_4 _ (by omega) (by omega) (by rw [iter_s, ← he15]; simp [valStep, c_21, c_32, c_43])  hR)
          · refine v_aload_n (pc := 46) O dX5_valueAt_46 rfl ?_
            refine vm_get (pc := 47) O hR 15 rfl q2058 rfl dX5_valueAt_47 ?_
            refine v_iload (pc := 50) O dX5_valueAt_50 rfl ?_
            refine vm_iald (pc := 52) O hR 15 rfl rfl (ir_nI (Nat.lt_of_lt_of_le hj15lt (hW.v13 hB)) (by decide)) (x := (s 15 (nI j15))) rfl dX5_valueAt_52 ?_
            refine v_goto (pc := 53) O (tgt := 58) dX5_valueAt_53 (by decide) ?_
            refine v_istore (pc := 58) (lv' := [(4, .int (s 15 (nI j15))), (5, .int (nI j15)), (3, .int (latestF s key st)), (0, .ref (ad 0)), (1, .int key), (2, .int st)]) O dX5_valueAt_58 rfl rfl ?_
            refine v_iinc (pc := 60) (y := (nI (j15 + 1))) (lv' := [(5, .int (nI (j15 + 1))), (4, .int (s 15 (nI j15))), (3, .int (latestF s key st)), (0, .ref (ad 0)), (1, .int key), (2, .int st)]) O dX5_valueAt_60 rfl (nI_inc _) rfl rfl ?_
            refine v_goto (pc := 63) O (tgt := 15) dX5_valueAt_63 (by decide) ?_
            exact v_locs [0, 1, 2, 3, 4, 5] rfl (ih15 (j15 + 1) (s 15 (nI j15)) _ (by omega) (by omega) (by rw [iter_s, ← he15]; simp [valStep, c_21, c_32, c_43])  hR)
  exact v_locs [0, 1, 2, 3, 4, 5] rfl (L15 (nat (s 12 0) + 1) 0 1000 _ (by omega) (by omega) iter_0.symm  hR)
set_option maxHeartbeats 4000000 in
theorem mm_marks (l : Launch) (Γ : Gm) (ad : Nat → Nat) (t key st : Int32) {s : St} {μ0 : Mem} (h_key : ir key (nI 32)) (hR : RepM Γ ad s μ0) : MetV l Γ yX5_marks cX5_marks 4 none 1 0 0 [.ref (ad 0), .int t, .int key, .int st] μ0 (PV (fun μ1 => RepM Γ ad (marksS s t key st) μ1)) := by
  refine MetV.of (by decide +kernel) rfl ?_
  intro X sz hl hr hnm O
  subst hl
  show V X Γ _ 4 _ 0 0 μ0 0 [(0, .ref (ad 0)), (1, .int t), (2, .int key), (3, .int st)] []
  refine v_iload_n (pc := 0) O dX5_marks_0 rfl ?_
  refine v_aload_n (pc := 1) O dX5_marks_1 rfl ?_
  refine vm_get (pc := 2) O hR 10 rfl q2053 rfl dX5_marks_2 ?_
  refine v_iload_n (pc := 5) O dX5_marks_5 rfl ?_
  refine vm_iald (pc := 6) O hR 10 rfl rfl h_key (x := (s 10 key)) rfl dX5_marks_6 ?_
  refine v_icmp_le (pc := 7) (tgt := 27) O dX5_marks_7 (by decide) (fun c_7 => ?_) (fun c_7 => ?_)
  · refine v_iload_n (pc := 27) O dX5_marks_27 rfl ?_
    refine v_aload_n (pc := 28) O dX5_marks_28 rfl ?_
    refine vm_get (pc := 29) O hR 10 rfl q2053 rfl dX5_marks_29 ?_
    refine v_iload_n (pc := 32) O dX5_marks_32 rfl ?_
    refine vm_iald (pc := 33) O hR 10 rfl rfl h_key (x := (s 10 key)) rfl dX5_marks_33 ?_
    refine v_icmp_ne (pc := 34) (tgt := 55) O dX5_marks_34 (by decide) (fun c_34 => ?_) (fun c_34 => ?_)
    · exact v_vret (pc := 55) O hr (Nat.le_refl _) (Nat.le_refl _) dX5_marks_55 ⟨rfl, by simpa [marksS, c_7, c_34] using hR⟩
    · refine v_aload_n (pc := 37) O dX5_marks_37 rfl ?_
      refine vm_get (pc := 38) O hR 11 rfl q2054 rfl dX5_marks_38 ?_
      refine v_iload_n (pc := 41) O dX5_marks_41 rfl ?_
      refine vm_iald (pc := 42) O hR 11 rfl rfl h_key (x := (s 11 key)) rfl dX5_marks_42 ?_
      refine v_iload_n (pc := 43) O dX5_marks_43 rfl ?_
      refine v_icmp_eq (pc := 44) (tgt := 55) O dX5_marks_44 (by decide) (fun c_44 => ?_) (fun c_44 => ?_)
      · exact v_vret (pc := 55) O hr (Nat.le_refl _) (Nat.le_refl _) dX5_marks_55 ⟨rfl, by simpa [marksS, c_7, c_34, c_44] using hR⟩
      · refine v_aload_n (pc := 47) O dX5_marks_47 rfl ?_
        refine vm_get (pc := 48) O hR 11 rfl q2054 rfl dX5_marks_48 ?_
        refine v_iload_n (pc := 51) O dX5_marks_51 rfl ?_
        refine v_bipush (pc := 52) O (x := -2) dX5_marks_52 (by decide) ?_
        refine vm_iast (pc := 54) O hR 11 rfl rfl h_key dX5_marks_54 (fun μ hR => ?_)
        exact v_vret (pc := 55) O hr (Nat.le_refl _) (Nat.le_refl _) dX5_marks_55 ⟨rfl, by simpa [marksS, c_7, c_34, c_44] using hR⟩
  · refine v_aload_n (pc := 10) O dX5_marks_10 rfl ?_
    refine vm_get (pc := 11) O hR 10 rfl q2053 rfl dX5_marks_11 ?_
    refine v_iload_n (pc := 14) O dX5_marks_14 rfl ?_
    refine v_iload_n (pc := 15) O dX5_marks_15 rfl ?_
    refine vm_iast (pc := 16) O hR 10 rfl rfl h_key dX5_marks_16 (fun μ hR => ?_)
    refine v_aload_n (pc := 17) O dX5_marks_17 rfl ?_
    refine vm_get (pc := 18) O hR 11 rfl q2054 rfl dX5_marks_18 ?_
    refine v_iload_n (pc := 21) O dX5_marks_21 rfl ?_
    refine v_iload_n (pc := 22) O dX5_marks_22 rfl ?_
    refine vm_iast (pc := 23) O hR 11 rfl rfl h_key dX5_marks_23 (fun μ hR => ?_)
    refine v_goto (pc := 24) O (tgt := 55) dX5_marks_24 (by decide) ?_
    exact v_vret (pc := 55) O hr (Nat.le_refl _) (Nat.le_refl _) dX5_marks_55 ⟨rfl, by simpa [marksS, c_7] using hR⟩
set_option maxHeartbeats 4000000 in
theorem mm_hasAllIntents (l : Launch) (Γ : Gm) (ad : Nat → Nat) (t : Int32) {s : St} {μ0 : Mem} (h_t : ir t (nI 40)) (hR : RepM Γ ad s μ0) : MetV l Γ yX5_hasAllIntents cX5_hasAllIntents 4 (some .boolean) 1 0 0 [.ref (ad 0), .int t] μ0 (PI (fun r9 μ1 => r9 = (b2i (hasAllB s t)) ∧ RepM Γ ad s μ1)) := by
  refine MetV.of (by decide +kernel) rfl ?_
  intro X sz hl hr hnm O
  subst hl
  show V X Γ _ 4 _ 0 0 μ0 0 [(0, .ref (ad 0)), (1, .int t)] []
  refine v_iconst (pc := 0) O (x := 1) dX5_hasAllIntents_0 (by decide) ?_
  refine v_istore_n (pc := 1) (lv' := [(2, .int 1), (0, .ref (ad 0)), (1, .int t)]) O dX5_hasAllIntents_1 rfl rfl ?_
  refine v_iconst (pc := 2) O (x := 0) dX5_hasAllIntents_2 (by decide) ?_
  refine v_istore_n (pc := 3) (lv' := [(3, .int 0), (2, .int 1), (0, .ref (ad 0)), (1, .int t)]) O dX5_hasAllIntents_3 rfl rfl ?_
  have L4 : ∀ (d4 j4 : Nat) (v4_2 : Int32) (μ : Mem), 32 < d4 + j4 → j4 ≤ 32 → v4_2 = b2i ((List.range j4).all fun k => decide (s 29 (32 * t + nI k) = -1) || decide (s 7 (nI k) = t)) → RepM Γ ad s μ → V X Γ (gA μ0 sz) 4 (QV X Γ μ0 sz (PI (fun r9 μ1 => r9 = (b2i (hasAllB s t)) ∧ RepM Γ ad s μ1)) 0 0) 0 0 μ 4 [(3, .int (nI j4)), (2, .int v4_2), (0, .ref (ad 0)), (1, .int t)] [] := by
    intro d4
    induction d4 with
    | zero => intro j4 v4_2 μ h1 h2; exact absurd h1 (by omega)
    | succ d4 ih4 =>
      intro j4 v4_2 μ hd hj4 he4  hR
      refine v_iload_n (pc := 4) O dX5_hasAllIntents_4 rfl ?_
      refine v_bipush (pc := 5) O (x := 32) dX5_hasAllIntents_5 (by decide) ?_
      refine v_icmp_ge (pc := 7) (tgt := 51) O dX5_hasAllIntents_7 (by decide) (fun c_7 => ?_) (fun c_7 => ?_)
      · have hx4 := lp_out rfl (by decide) hj4 c_7
        subst hx4
        subst he4
        refine v_iload_n (pc := 51) O dX5_hasAllIntents_51 rfl ?_
        exact v_zret (pc := 52) O hr (Nat.le_refl _) (Nat.le_refl _) dX5_hasAllIntents_52 (b2i_nar _) ⟨_, rfl, ⟨rfl, hR⟩⟩
      · have hj4lt := lp_in rfl (by decide) hj4 c_7
        refine v_iload_n (pc := 10) O dX5_hasAllIntents_10 rfl ?_
        refine v_if_eq (pc := 11) (tgt := 43) O dX5_hasAllIntents_11 (by decide) (fun c_11 => ?_) (fun c_11 => ?_)
        · rw [he4] at c_11
          have hb4 := b2i_0 c_11
          refine v_iconst (pc := 43) O (x := 0) dX5_hasAllIntents_43 (by decide) ?_
          refine v_istore_n (pc := 44) (lv' := [(2, .int 0), (3, .int (nI j4)), (0, .ref (ad 0)), (1, .int t)]) O dX5_hasAllIntents_44 rfl rfl ?_
          refine v_iinc (pc := 45) (y := (nI (j4 + 1))) (lv' := [(3, .int (nI (j4 + 1))), (2, .int 0), (0, .ref (ad 0)), (1, .int t)]) O dX5_hasAllIntents_45 rfl (nI_inc _) rfl rfl ?_
          refine v_goto (pc := 48) O (tgt := 4) dX5_hasAllIntents_48 (by decide) ?_
          exact v_locs [0, 1, 2, 3] rfl (ih4 (j4 + 1) 0 _ (by omega) (by omega) (by rw [List.range_succ, List.all_append, hb4]; simp [b2i, c_7])  hR)
        · rw [he4] at c_11
          have hb4 := b2i_n0 c_11
          refine v_aload_n (pc := 14) O dX5_hasAllIntents_14 rfl ?_
          refine vm_get (pc := 15) O hR 29 rfl q2072 rfl dX5_hasAllIntents_15 ?_
          refine v_bipush (pc := 18) O (x := 32) dX5_hasAllIntents_18 (by decide) ?_
          refine v_iload_n (pc := 20) O dX5_hasAllIntents_20 rfl ?_
          refine v_imul (pc := 21) O dX5_hasAllIntents_21 ?_
          refine v_iload_n (pc := 22) O dX5_hasAllIntents_22 rfl ?_
          refine v_iadd (pc := 23) O dX5_hasAllIntents_23 ?_
          refine vm_iald (pc := 24) O hR 29 rfl rfl (ir_32 h_t hj4lt) (x := (s 29 ((32 * t) + (nI j4)))) rfl dX5_hasAllIntents_24 ?_
          refine v_iconst (pc := 25) O (x := -1) dX5_hasAllIntents_25 (by decide) ?_
          refine v_icmp_eq (pc := 26) (tgt := 39) O dX5_hasAllIntents_26 (by decide) (fun c_26 => ?_) (fun c_26 => ?_)
          · refine v_iconst (pc := 39) O (x := 1) dX5_hasAllIntents_39 (by decide) ?_
            refine v_goto (pc := 40) O (tgt := 44) dX5_hasAllIntents_40 (by decide) ?_
            refine v_istore_n (pc := 44) (lv' := [(2, .int 1), (3, .int (nI j4)), (0, .ref (ad 0)), (1, .int t)]) O dX5_hasAllIntents_44 rfl rfl ?_
            refine v_iinc (pc := 45) (y := (nI (j4 + 1))) (lv' := [(3, .int (nI (j4 + 1))), (2, .int 1), (0, .ref (ad 0)), (1, .int t)]) O dX5_hasAllIntents_45 rfl (nI_inc _) rfl rfl ?_
            refine v_goto (pc := 48) O (tgt := 4) dX5_hasAllIntents_48 (by decide) ?_
            exact v_locs [0, 1, 2, 3] rfl (ih4 (j4 + 1) 1 _ (by omega) (by omega) (by rw [List.range_succ, List.all_append, hb4]; simp [b2i, c_7, c_26])  hR)
          · refine v_aload_n (pc := 29) O dX5_hasAllIntents_29 rfl ?_
            refine vm_get (pc := 30) O hR 7 rfl q2050 rfl dX5_hasAllIntents_30 ?_
            refine v_iload_n (pc := 33) O dX5_hasAllIntents_33 rfl ?_
            refine vm_iald (pc := 34) O hR 7 rfl rfl (ir_nI hj4lt (by decide)) (x := (s 7 (nI j4))) rfl dX5_hasAllIntents_34 ?_
            refine v_iload_n (pc := 35) O dX5_hasAllIntents_35 rfl ?_
            refine v_icmp_ne (pc := 36) (tgt := 43) O dX5_hasAllIntents_36 (by decide) (fun c_36 => ?_) (fun c_36 => ?_)
            · refine v_iconst (pc := 43) O (x := 0) dX5_hasAllIntents_43 (by decide) ?_
              refine v_istore_n (pc := 44) (lv' := [(2, .int 0), (3, .int (nI j4)), (0, .ref (ad 0)), (1, .int t)]) O dX5_hasAllIntents_44 rfl rfl ?_
              refine v_iinc (pc := 45) (y := (nI (j4 + 1))) (lv' := [(3, .int (nI (j4 + 1))), (2, .int 0), (0, .ref (ad 0)), (1, .int t)]) O dX5_hasAllIntents_45 rfl (nI_inc _) rfl rfl ?_
              refine v_goto (pc := 48) O (tgt := 4) dX5_hasAllIntents_48 (by decide) ?_
              exact v_locs [0, 1, 2, 3] rfl (ih4 (j4 + 1) 0 _ (by omega) (by omega) (by rw [List.range_succ, List.all_append, hb4]; simp [b2i, c_7, c_26, c_36])  hR)
            · refine v_iconst (pc := 39) O (x := 1) dX5_hasAllIntents_39 (by decide) ?_
              refine v_goto (pc := 40) O (tgt := 44) dX5_hasAllIntents_40 (by decide) ?_
              refine v_istore_n (pc := 44) (lv' := [(2, .int 1), (3, .int (nI j4)), (0, .ref (ad 0)), (1, .int t)]) O dX5_hasAllIntents_44 rfl rfl ?_
              refine v_iinc (pc := 45) (y := (nI (j4 + 1))) (lv' := [(3, .int (nI (j4 + 1))), (2, .int 1), (0, .ref (ad 0)), (1, .int t)]) O dX5_hasAllIntents_45 rfl (nI_inc _) rfl rfl ?_
              refine v_goto (pc := 48) O (tgt := 4) dX5_hasAllIntents_48 (by decide) ?_
              exact v_locs [0, 1, 2, 3] rfl (ih4 (j4 + 1) 1 _ (by omega) (by omega) (by rw [List.range_succ, List.all_append, hb4]; simp [b2i, c_7, c_26, c_36])  hR)
  exact v_locs [0, 1, 2, 3] rfl (L4 (32 + 1) 0 1 _ (by omega) (by omega) rfl  hR)
set_option maxHeartbeats 4000000 in
theorem mm_commits (l : Launch) (Γ : Gm) (ad : Nat → Nat) (t : Int32) {s : St} {μ0 : Mem} {B : Nat} (hB : B ≤ 1000) (hn : ¬ t = -1) (h_t : ir t (nI 40)) (hW : WfM B s) (hR : RepM Γ ad s μ0) : MetV l Γ yX5_commits cX5_commits 3 none 1 0 0 [.ref (ad 0), .int t] μ0 (PV (fun μ1 => RepM Γ ad (commitsS s t) μ1)) := by
  refine MetV.of (by decide +kernel) rfl ?_
  intro X sz hl hr hnm O
  subst hl
  show V X Γ _ 3 _ 0 0 μ0 0 [(0, .ref (ad 0)), (1, .int t)] []
  refine v_aload_n (pc := 0) O dX5_commits_0 rfl ?_
  refine vm_get (pc := 1) O hR 23 rfl q2066 rfl dX5_commits_1 ?_
  refine v_iload_n (pc := 4) O dX5_commits_4 rfl ?_
  refine v_iconst (pc := 5) O (x := 2) dX5_commits_5 (by decide) ?_
  refine vm_iast (pc := 6) O hR 23 rfl rfl h_t dX5_commits_6 (fun μ hR => ?_)
  refine v_aload_n (pc := 7) O dX5_commits_7 rfl ?_
  refine vm_get (pc := 8) O hR 25 rfl q2068 rfl dX5_commits_8 ?_
  refine v_iload_n (pc := 11) O dX5_commits_11 rfl ?_
  refine v_aload_n (pc := 12) O dX5_commits_12 rfl ?_
  refine vm_geti (pc := 13) O hR 26 rfl q2069 (x := (s 26 0)) rfl ((sset_f (by decide)).trans rfl) dX5_commits_13 ?_
  refine vm_iast (pc := 16) O hR 25 rfl rfl h_t dX5_commits_16 (fun μ hR => ?_)
  refine v_aload_n (pc := 17) O dX5_commits_17 rfl ?_
  refine v_dup (pc := 18) O dX5_commits_18 rfl ?_
  refine vm_geti (pc := 19) O hR 26 rfl q2069 (x := (s 26 0)) rfl ((sset_f (by decide)).trans ((sset_f (by decide)).trans rfl)) dX5_commits_19 ?_
  refine v_iconst (pc := 22) O (x := 1) dX5_commits_22 (by decide) ?_
  refine v_iadd (pc := 23) O dX5_commits_23 ?_
  refine vm_put (pc := 24) O hR 26 (by decide) q2069 dX5_commits_24 (fun μ hR => ?_)
  refine v_iconst (pc := 27) O (x := 0) dX5_commits_27 (by decide) ?_
  refine v_istore_n (pc := 28) (lv' := [(2, .int 0), (0, .ref (ad 0)), (1, .int t)]) O dX5_commits_28 rfl rfl ?_
  have L29 : ∀ (d29 j29 : Nat) (s29 : St) (μ : Mem), 32 < d29 + j29 → j29 ≤ 32 → s29 = iter (comStep t) j29 (sset (sset (sset s 23 t 2) 25 t (s 26 0)) 26 0 ((s 26 0) + 1)) → WfM B s29 → RepM Γ ad s29 μ → V X Γ (gA μ0 sz) 3 (QV X Γ μ0 sz (PV (fun μ1 => RepM Γ ad (commitsS s t) μ1)) 0 0) 0 0 μ 29 [(2, .int (nI j29)), (0, .ref (ad 0)), (1, .int t)] [] := by
    intro d29
    induction d29 with
    | zero => intro j29 s29 μ h1 h2; exact absurd h1 (by omega)
    | succ d29 ih29 =>
      intro j29 s29 μ hd hj29 he29 hWs29 hR
      refine v_iload_n (pc := 29) O dX5_commits_29 rfl ?_
      refine v_bipush (pc := 30) O (x := 32) dX5_commits_30 (by decide) ?_
      refine v_icmp_ge (pc := 32) (tgt := 108) O dX5_commits_32 (by decide) (fun c_32 => ?_) (fun c_32 => ?_)
      · have hx29 := lp_out rfl (by decide) hj29 c_32
        subst hx29
        exact v_vret (pc := 108) O hr (Nat.le_refl _) (Nat.le_refl _) dX5_commits_108 ⟨rfl, by simpa [commitsS, c_32, ← he29] using hR⟩
      · have hj29lt := lp_in rfl (by decide) hj29 c_32
        refine v_aload_n (pc := 35) O dX5_commits_35 rfl ?_
        refine vm_get (pc := 36) O hR 7 rfl q2050 rfl dX5_commits_36 ?_
        refine v_iload_n (pc := 39) O dX5_commits_39 rfl ?_
        refine vm_iald (pc := 40) O hR 7 rfl rfl (ir_nI hj29lt (by decide)) (x := (s29 7 (nI j29))) rfl dX5_commits_40 ?_
        refine v_iload_n (pc := 41) O dX5_commits_41 rfl ?_
        refine v_icmp_ne (pc := 42) (tgt := 102) O dX5_commits_42 (by decide) (fun c_42 => ?_) (fun c_42 => ?_)
        · refine v_iinc (pc := 102) (y := (nI (j29 + 1))) (lv' := [(2, .int (nI (j29 + 1))), (0, .ref (ad 0)), (1, .int t)]) O dX5_commits_102 rfl (nI_inc _) rfl rfl ?_
          refine v_goto (pc := 105) O (tgt := 29) dX5_commits_105 (by decide) ?_
          exact v_locs [0, 1, 2] rfl (ih29 (j29 + 1) s29 _ (by omega) (by omega) (by rw [iter_s, ← he29]; simp [comStep, c_32, c_42]) hWs29 hR)
        · refine v_aload_n (pc := 45) O dX5_commits_45 rfl ?_
          refine vm_get (pc := 46) O hR 13 rfl q2056 rfl dX5_commits_46 ?_
          refine v_aload_n (pc := 49) O dX5_commits_49 rfl ?_
          refine vm_geti (pc := 50) O hR 12 rfl q2055 (x := (s29 12 0)) rfl rfl dX5_commits_50 ?_
          refine v_iload_n (pc := 53) O dX5_commits_53 rfl ?_
          refine vm_iast (pc := 54) O hR 13 rfl rfl (hWs29.vix hB hj29lt (by rw [c_42]; exact hn)) dX5_commits_54 (fun μ hR => ?_)
          refine v_aload_n (pc := 55) O dX5_commits_55 rfl ?_
          refine vm_get (pc := 56) O hR 14 rfl q2057 rfl dX5_commits_56 ?_
          refine v_aload_n (pc := 59) O dX5_commits_59 rfl ?_
          refine vm_geti (pc := 60) O hR 12 rfl q2055 (x := (s29 12 0)) rfl ((sset_f (by decide)).trans rfl) dX5_commits_60 ?_
          refine v_aload_n (pc := 63) O dX5_commits_63 rfl ?_
          refine vm_get (pc := 64) O hR 20 rfl q2063 rfl dX5_commits_64 ?_
          refine v_iload_n (pc := 67) O dX5_commits_67 rfl ?_
          refine vm_iald (pc := 68) O hR 20 rfl rfl h_t (x := (s29 20 t)) ((sset_f (by decide)).trans rfl) dX5_commits_68 ?_
          refine vm_iast (pc := 69) O hR 14 rfl rfl (hWs29.vix hB hj29lt (by rw [c_42]; exact hn)) dX5_commits_69 (fun μ hR => ?_)
          refine v_aload_n (pc := 70) O dX5_commits_70 rfl ?_
          refine vm_get (pc := 71) O hR 15 rfl q2058 rfl dX5_commits_71 ?_
          refine v_aload_n (pc := 74) O dX5_commits_74 rfl ?_
          refine vm_geti (pc := 75) O hR 12 rfl q2055 (x := (s29 12 0)) rfl ((sset_f (by decide)).trans ((sset_f (by decide)).trans rfl)) dX5_commits_75 ?_
          refine v_aload_n (pc := 78) O dX5_commits_78 rfl ?_
          refine vm_get (pc := 79) O hR 9 rfl q2052 rfl dX5_commits_79 ?_
          refine v_iload_n (pc := 82) O dX5_commits_82 rfl ?_
          refine vm_iald (pc := 83) O hR 9 rfl rfl (ir_nI hj29lt (by decide)) (x := (s29 9 (nI j29))) ((sset_f (by decide)).trans ((sset_f (by decide)).trans rfl)) dX5_commits_83 ?_
          refine vm_iast (pc := 84) O hR 15 rfl rfl (hWs29.vix hB hj29lt (by rw [c_42]; exact hn)) dX5_commits_84 (fun μ hR => ?_)
          refine v_aload_n (pc := 85) O dX5_commits_85 rfl ?_
          refine v_dup (pc := 86) O dX5_commits_86 rfl ?_
          refine vm_geti (pc := 87) O hR 12 rfl q2055 (x := (s29 12 0)) rfl ((sset_f (by decide)).trans ((sset_f (by decide)).trans ((sset_f (by decide)).trans rfl))) dX5_commits_87 ?_
          refine v_iconst (pc := 90) O (x := 1) dX5_commits_90 (by decide) ?_
          refine v_iadd (pc := 91) O dX5_commits_91 ?_
          refine vm_put (pc := 92) O hR 12 (by decide) q2055 dX5_commits_92 (fun μ hR => ?_)
          refine v_aload_n (pc := 95) O dX5_commits_95 rfl ?_
          refine vm_get (pc := 96) O hR 7 rfl q2050 rfl dX5_commits_96 ?_
          refine v_iload_n (pc := 99) O dX5_commits_99 rfl ?_
          refine v_iconst (pc := 100) O (x := -1) dX5_commits_100 (by decide) ?_
          refine vm_iast (pc := 101) O hR 7 rfl rfl (ir_nI hj29lt (by decide)) dX5_commits_101 (fun μ hR => ?_)
          refine v_iinc (pc := 102) (y := (nI (j29 + 1))) (lv' := [(2, .int (nI (j29 + 1))), (0, .ref (ad 0)), (1, .int t)]) O dX5_commits_102 rfl (nI_inc _) rfl rfl ?_
          refine v_goto (pc := 105) O (tgt := 29) dX5_commits_105 (by decide) ?_
          exact v_locs [0, 1, 2] rfl (ih29 (j29 + 1) (sset (sset (sset (sset (sset s29 13 (s29 12 0) (nI j29)) 14 (s29 12 0) (s29 20 t)) 15 (s29 12 0) (s29 9 (nI j29))) 12 0 ((s29 12 0) + 1)) 7 (nI j29) (-1)) _ (by omega) (by omega) (by rw [iter_s, ← he29]; simp [comStep, c_32, c_42]) (by have h9 := WfM.com1 hB hn hj29lt hWs29; rwa [comStep, if_pos c_42] at h9) hR)
  exact v_locs [0, 1, 2] rfl (L29 (32 + 1) 0 (sset (sset (sset s 23 t 2) 25 t (s 26 0)) 26 0 ((s 26 0) + 1)) _ (by omega) (by omega) iter_0.symm (WfM.oth (WfM.oth (WfM.oth hW (by decide)) (by decide)) (by decide)) hR)
set_option maxHeartbeats 4000000 in
theorem mm_recovers (l : Launch) (Γ : Gm) (ad : Nat → Nat) (t : Int32) {s : St} {μ0 : Mem} {B : Nat} (hB : B ≤ 1000) (hn : ¬ t = -1) (h_t : ir t (nI 40)) (hW : WfM B s) (hR : RepM Γ ad s μ0) : MetV l Γ yX5_recovers cX5_recovers 2 none 2 0 0 [.ref (ad 0), .int t] μ0 (PV (fun μ1 => RepM Γ ad (recoversS s t) μ1)) := by
  refine MetV.of (by decide +kernel) rfl ?_
  intro X sz hl hr hnm O
  subst hl
  show V X Γ _ 2 _ 0 0 μ0 0 [(0, .ref (ad 0)), (1, .int t)] []
  refine v_aload_n (pc := 0) O dX5_recovers_0 rfl ?_
  refine v_iload_n (pc := 1) O dX5_recovers_1 rfl ?_
  refine v_callVi0 (pc := 2) (nA := 1) O (mm_hasAllIntents (xL X) Γ ad t h_t hR) hR.1 rfl q2239 q2241 qs31 q71 q2242 (by decide +kernel) rfl rfl rfl rfl (Nat.le_of_ble_eq_true rfl) (Nat.le_refl _) (Nat.le_refl _) dX5_recovers_2 (fun x μ h => ?_)
  obtain ⟨rfl, hR⟩ := h
  refine v_if_eq_b (pc := 5) (tgt := 16) O dX5_recovers_5 (by decide) (fun c_5 => ?_) (fun c_5 => ?_)
  · refine v_aload_n (pc := 16) O dX5_recovers_16 rfl ?_
    refine vm_get (pc := 17) O hR 23 rfl q2066 rfl dX5_recovers_17 ?_
    refine v_iload_n (pc := 20) O dX5_recovers_20 rfl ?_
    refine v_iconst (pc := 21) O (x := 3) dX5_recovers_21 (by decide) ?_
    refine vm_iast (pc := 22) O hR 23 rfl rfl h_t dX5_recovers_22 (fun μ hR => ?_)
    exact v_vret (pc := 23) O hr (Nat.le_refl _) (Nat.le_refl _) dX5_recovers_23 ⟨rfl, by simpa [recoversS, c_5] using hR⟩
  · refine v_aload_n (pc := 8) O dX5_recovers_8 rfl ?_
    refine v_iload_n (pc := 9) O dX5_recovers_9 rfl ?_
    refine v_callVv0 (pc := 10) (nA := 1) O (mm_commits (xL X) Γ ad t hB hn h_t hW hR) hR.1 rfl q2243 q2245 qs32 q71 q2246 (by decide +kernel) rfl rfl rfl rfl (Nat.le_of_ble_eq_true rfl) (Nat.le_refl _) (Nat.le_refl _) dX5_recovers_10 (fun μ hR => ?_)
    refine v_goto (pc := 13) O (tgt := 23) dX5_recovers_13 (by decide) ?_
    exact v_vret (pc := 23) O hr (Nat.le_refl _) (Nat.le_refl _) dX5_recovers_23 ⟨rfl, by simpa [recoversS, c_5] using hR⟩
set_option maxHeartbeats 4000000 in
theorem mm_meets (l : Launch) (Γ : Gm) (ad : Nat → Nat) (t key : Int32) {s : St} {μ0 : Mem} {B : Nat} (hB : B ≤ 1000) (h_key : ir key (nI 32)) (hW : WfM B s) (hR : RepM Γ ad s μ0) : MetV l Γ yX5_meets cX5_meets 4 (some .int) 3 0 0 [.ref (ad 0), .int t, .int key] μ0 (PI (fun r9 μ1 => r9 = (meetsF s t key) ∧ RepM Γ ad (meetsS s t key) μ1)) := by
  refine MetV.of (by decide +kernel) rfl ?_
  intro X sz hl hr hnm O
  subst hl
  show V X Γ _ 4 _ 0 0 μ0 0 [(0, .ref (ad 0)), (1, .int t), (2, .int key)] []
  refine v_aload_n (pc := 0) O dX5_meets_0 rfl ?_
  refine vm_get (pc := 1) O hR 7 rfl q2050 rfl dX5_meets_1 ?_
  refine v_iload_n (pc := 4) O dX5_meets_4 rfl ?_
  refine vm_iald (pc := 5) O hR 7 rfl rfl h_key (x := (s 7 key)) rfl dX5_meets_5 ?_
  refine v_istore_n (pc := 6) (lv' := [(3, .int (s 7 key)), (0, .ref (ad 0)), (1, .int t), (2, .int key)]) O dX5_meets_6 rfl rfl ?_
  refine v_iload_n (pc := 7) O dX5_meets_7 rfl ?_
  refine v_iconst (pc := 8) O (x := -1) dX5_meets_8 (by decide) ?_
  refine v_icmp_eq (pc := 9) (tgt := 17) O dX5_meets_9 (by decide) (fun c_9 => ?_) (fun c_9 => ?_)
  · refine v_iconst (pc := 17) O (x := -1) dX5_meets_17 (by decide) ?_
    exact v_iret (pc := 18) O hr (Nat.le_refl _) (Nat.le_refl _) dX5_meets_18 ⟨_, rfl, ⟨by simp [meetsF, c_9], by simpa [meetsS, c_9] using hR⟩⟩
  · refine v_iload_n (pc := 12) O dX5_meets_12 rfl ?_
    refine v_iload_n (pc := 13) O dX5_meets_13 rfl ?_
    refine v_icmp_ne (pc := 14) (tgt := 19) O dX5_meets_14 (by decide) (fun c_14 => ?_) (fun c_14 => ?_)
    · refine v_aload_n (pc := 19) O dX5_meets_19 rfl ?_
      refine vm_get (pc := 20) O hR 23 rfl q2066 rfl dX5_meets_20 ?_
      refine v_iload_n (pc := 23) O dX5_meets_23 rfl ?_
      refine vm_iald (pc := 24) O hR 23 rfl rfl (WfM.own hW c_9) (x := (s 23 (s 7 key))) rfl dX5_meets_24 ?_
      refine v_iconst (pc := 25) O (x := 1) dX5_meets_25 (by decide) ?_
      refine v_icmp_ne (pc := 26) (tgt := 34) O dX5_meets_26 (by decide) (fun c_26 => ?_) (fun c_26 => ?_)
      · refine v_aload_n (pc := 34) O dX5_meets_34 rfl ?_
        refine v_iload_n (pc := 35) O dX5_meets_35 rfl ?_
        refine v_callVi0 (pc := 36) (nA := 1) O (mm_isVanished (xL X) Γ ad (s 7 key) (WfM.own hW c_9) hR) hR.1 rfl q2247 q2249 qs33 q71 q2250 (by decide +kernel) rfl rfl rfl rfl (Nat.le_of_ble_eq_true rfl) (Nat.le_refl _) (Nat.le_refl _) dX5_meets_36 (fun x μ h => ?_)
        obtain ⟨rfl, hR⟩ := h
        refine v_if_eq_b (pc := 39) (tgt := 49) O dX5_meets_39 (by decide) (fun c_39 => ?_) (fun c_39 => ?_)
        · refine v_aload_n (pc := 49) O dX5_meets_49 rfl ?_
          refine vm_get (pc := 50) O hR 23 rfl q2066 rfl dX5_meets_50 ?_
          refine v_iload_n (pc := 53) O dX5_meets_53 rfl ?_
          refine vm_iald (pc := 54) O hR 23 rfl rfl (WfM.own hW c_9) (x := (s 23 (s 7 key))) rfl dX5_meets_54 ?_
          refine v_iconst (pc := 55) O (x := 3) dX5_meets_55 (by decide) ?_
          refine v_icmp_ne (pc := 56) (tgt := 66) O dX5_meets_56 (by decide) (fun c_56 => ?_) (fun c_56 => ?_)
          · refine v_aload_n (pc := 66) O dX5_meets_66 rfl ?_
            refine vm_get (pc := 67) O hR 23 rfl q2066 rfl dX5_meets_67 ?_
            refine v_iload_n (pc := 70) O dX5_meets_70 rfl ?_
            refine vm_iald (pc := 71) O hR 23 rfl rfl (WfM.own hW c_9) (x := (s 23 (s 7 key))) rfl dX5_meets_71 ?_
            refine v_if_ne (pc := 72) (tgt := 79) O dX5_meets_72 (by decide) (fun c_72 => ?_) (fun c_72 => ?_)
            · refine v_iconst (pc := 79) O (x := -1) dX5_meets_79 (by decide) ?_
              have e1 : meetsS1 s (s 7 key) = s := by simp [meetsS1, c_26]
              have e2 : meetsS2 s (s 7 key) = s := by simp [meetsS2, c_39]
              have e3 : meetsS3 s (s 7 key) key = s := by simp [meetsS3, sset_eq, c_56]
              have e4 : meetsS s t key = s := by rw [meetsS, if_neg (fun h => h.elim c_9 c_14), e1, e2, e3]
              exact v_iret (pc := 80) O hr (Nat.le_refl _) (Nat.le_refl _) dX5_meets_80 ⟨_, rfl, ⟨by rw [meetsF, if_neg (fun h => h.elim c_9 c_14), e4]; simp [sset_eq, sset_f, c_56, c_72], by rw [e4]; exact hR⟩⟩
            · refine v_iload_n (pc := 75) O dX5_meets_75 rfl ?_
              refine v_goto (pc := 76) O (tgt := 80) dX5_meets_76 (by decide) ?_
              have e1 : meetsS1 s (s 7 key) = s := by simp [meetsS1, c_26]
              have e2 : meetsS2 s (s 7 key) = s := by simp [meetsS2, c_39]
              have e3 : meetsS3 s (s 7 key) key = s := by simp [meetsS3, sset_eq, c_56]
              have e4 : meetsS s t key = s := by rw [meetsS, if_neg (fun h => h.elim c_9 c_14), e1, e2, e3]
              exact v_iret (pc := 80) O hr (Nat.le_refl _) (Nat.le_refl _) dX5_meets_80 ⟨_, rfl, ⟨by rw [meetsF, if_neg (fun h => h.elim c_9 c_14), e4]; simp [sset_eq, sset_f, c_56, c_72], by rw [e4]; exact hR⟩⟩
          · refine v_aload_n (pc := 59) O dX5_meets_59 rfl ?_
            refine vm_get (pc := 60) O hR 7 rfl q2050 rfl dX5_meets_60 ?_
            refine v_iload_n (pc := 63) O dX5_meets_63 rfl ?_
            refine v_iconst (pc := 64) O (x := -1) dX5_meets_64 (by decide) ?_
            refine vm_iast (pc := 65) O hR 7 rfl rfl h_key dX5_meets_65 (fun μ hR => ?_)
            refine v_aload_n (pc := 66) O dX5_meets_66 rfl ?_
            refine vm_get (pc := 67) O hR 23 rfl q2066 rfl dX5_meets_67 ?_
            refine v_iload_n (pc := 70) O dX5_meets_70 rfl ?_
            refine vm_iald (pc := 71) O hR 23 rfl rfl (WfM.own hW c_9) (x := (s 23 (s 7 key))) ((sset_f (by decide)).trans rfl) dX5_meets_71 ?_
            refine v_if_ne (pc := 72) (tgt := 79) O dX5_meets_72 (by decide) (fun c_72 => ?_) (fun c_72 => ?_)
            · refine v_iconst (pc := 79) O (x := -1) dX5_meets_79 (by decide) ?_
              have e1 : meetsS1 s (s 7 key) = s := by simp [meetsS1, c_26]
              have e2 : meetsS2 s (s 7 key) = s := by simp [meetsS2, c_39]
              have e3 : meetsS3 s (s 7 key) key = (sset s 7 key (-1)) := by simp [meetsS3, sset_eq, c_56]
              have e4 : meetsS s t key = (sset s 7 key (-1)) := by rw [meetsS, if_neg (fun h => h.elim c_9 c_14), e1, e2, e3]
              exact v_iret (pc := 80) O hr (Nat.le_refl _) (Nat.le_refl _) dX5_meets_80 ⟨_, rfl, ⟨by rw [meetsF, if_neg (fun h => h.elim c_9 c_14), e4]; simp [sset_eq, sset_f, c_56, c_72], by rw [e4]; exact hR⟩⟩
            · refine v_iload_n (pc := 75) O dX5_meets_75 rfl ?_
              refine v_goto (pc := 76) O (tgt := 80) dX5_meets_76 (by decide) ?_
              have e1 : meetsS1 s (s 7 key) = s := by simp [meetsS1, c_26]
              have e2 : meetsS2 s (s 7 key) = s := by simp [meetsS2, c_39]
              have e3 : meetsS3 s (s 7 key) key = (sset s 7 key (-1)) := by simp [meetsS3, sset_eq, c_56]
              have e4 : meetsS s t key = (sset s 7 key (-1)) := by rw [meetsS, if_neg (fun h => h.elim c_9 c_14), e1, e2, e3]
              exact absurd (c_56.symm.trans c_72) (by decide)
        · refine v_aload_n (pc := 42) O dX5_meets_42 rfl ?_
          refine vm_get (pc := 43) O hR 23 rfl q2066 rfl dX5_meets_43 ?_
          refine v_iload_n (pc := 46) O dX5_meets_46 rfl ?_
          refine v_iconst (pc := 47) O (x := 3) dX5_meets_47 (by decide) ?_
          refine vm_iast (pc := 48) O hR 23 rfl rfl (WfM.own hW c_9) dX5_meets_48 (fun μ hR => ?_)
          refine v_aload_n (pc := 49) O dX5_meets_49 rfl ?_
          refine vm_get (pc := 50) O hR 23 rfl q2066 rfl dX5_meets_50 ?_
          refine v_iload_n (pc := 53) O dX5_meets_53 rfl ?_
          refine vm_iald (pc := 54) O hR 23 rfl rfl (WfM.own hW c_9) (x := 3) sset_eq dX5_meets_54 ?_
          refine v_iconst (pc := 55) O (x := 3) dX5_meets_55 (by decide) ?_
          refine v_icmp_ne (pc := 56) (tgt := 66) O dX5_meets_56 (by decide) (fun c => absurd (by decide) c) (fun _ => ?_)
          refine v_aload_n (pc := 59) O dX5_meets_59 rfl ?_
          refine vm_get (pc := 60) O hR 7 rfl q2050 rfl dX5_meets_60 ?_
          refine v_iload_n (pc := 63) O dX5_meets_63 rfl ?_
          refine v_iconst (pc := 64) O (x := -1) dX5_meets_64 (by decide) ?_
          refine vm_iast (pc := 65) O hR 7 rfl rfl h_key dX5_meets_65 (fun μ hR => ?_)
          refine v_aload_n (pc := 66) O dX5_meets_66 rfl ?_
          refine vm_get (pc := 67) O hR 23 rfl q2066 rfl dX5_meets_67 ?_
          refine v_iload_n (pc := 70) O dX5_meets_70 rfl ?_
          refine vm_iald (pc := 71) O hR 23 rfl rfl (WfM.own hW c_9) (x := 3) ((sset_f (by decide)).trans sset_eq) dX5_meets_71 ?_
          refine v_if_ne (pc := 72) (tgt := 79) O dX5_meets_72 (by decide) (fun _ => ?_) (fun c => absurd c (by decide))
          refine v_iconst (pc := 79) O (x := -1) dX5_meets_79 (by decide) ?_
          have e1 : meetsS1 s (s 7 key) = s := by simp [meetsS1, c_26]
          have e2 : meetsS2 s (s 7 key) = (sset s 23 (s 7 key) 3) := by simp [meetsS2, c_39]
          have e3 : meetsS3 (sset s 23 (s 7 key) 3) (s 7 key) key = (sset (sset s 23 (s 7 key) 3) 7 key (-1)) := by simp [meetsS3, sset_eq]
          have e4 : meetsS s t key = (sset (sset s 23 (s 7 key) 3) 7 key (-1)) := by rw [meetsS, if_neg (fun h => h.elim c_9 c_14), e1, e2, e3]
          exact v_iret (pc := 80) O hr (Nat.le_refl _) (Nat.le_refl _) dX5_meets_80 ⟨_, rfl, ⟨by rw [meetsF, if_neg (fun h => h.elim c_9 c_14), e4]; simp [sset_eq, sset_f], by rw [e4]; exact hR⟩⟩
      · refine v_aload_n (pc := 29) O dX5_meets_29 rfl ?_
        refine v_iload_n (pc := 30) O dX5_meets_30 rfl ?_
        refine v_callVv0 (pc := 31) (nA := 1) O (mm_recovers (xL X) Γ ad (s 7 key) hB c_9 (WfM.own hW c_9) hW hR) hR.1 rfl q2235 q2237 qs30 q71 q2238 (by decide +kernel) rfl rfl rfl rfl (Nat.le_of_ble_eq_true rfl) (Nat.le_refl _) (Nat.le_refl _) dX5_meets_31 (fun μ hR => ?_)
        refine v_aload_n (pc := 34) O dX5_meets_34 rfl ?_
        refine v_iload_n (pc := 35) O dX5_meets_35 rfl ?_
        refine v_callVi0 (pc := 36) (nA := 1) O (mm_isVanished (xL X) Γ ad (s 7 key) (WfM.own hW c_9) hR) hR.1 rfl q2247 q2249 qs33 q71 q2250 (by decide +kernel) rfl rfl rfl rfl (Nat.le_of_ble_eq_true rfl) (Nat.le_refl _) (Nat.le_refl _) dX5_meets_36 (fun x μ h => ?_)
        obtain ⟨rfl, hR⟩ := h
        refine v_if_eq_b (pc := 39) (tgt := 49) O dX5_meets_39 (by decide) (fun c_39 => ?_) (fun c_39 => ?_)
        · refine v_aload_n (pc := 49) O dX5_meets_49 rfl ?_
          refine vm_get (pc := 50) O hR 23 rfl q2066 rfl dX5_meets_50 ?_
          refine v_iload_n (pc := 53) O dX5_meets_53 rfl ?_
          refine vm_iald (pc := 54) O hR 23 rfl rfl (WfM.own hW c_9) (x := ((recoversS s (s 7 key)) 23 (s 7 key))) rfl dX5_meets_54 ?_
          refine v_iconst (pc := 55) O (x := 3) dX5_meets_55 (by decide) ?_
          refine v_icmp_ne (pc := 56) (tgt := 66) O dX5_meets_56 (by decide) (fun c_56 => ?_) (fun c_56 => ?_)
          · refine v_aload_n (pc := 66) O dX5_meets_66 rfl ?_
            refine vm_get (pc := 67) O hR 23 rfl q2066 rfl dX5_meets_67 ?_
            refine v_iload_n (pc := 70) O dX5_meets_70 rfl ?_
            refine vm_iald (pc := 71) O hR 23 rfl rfl (WfM.own hW c_9) (x := ((recoversS s (s 7 key)) 23 (s 7 key))) rfl dX5_meets_71 ?_
            refine v_if_ne (pc := 72) (tgt := 79) O dX5_meets_72 (by decide) (fun c_72 => ?_) (fun c_72 => ?_)
            · refine v_iconst (pc := 79) O (x := -1) dX5_meets_79 (by decide) ?_
              have e1 : meetsS1 s (s 7 key) = (recoversS s (s 7 key)) := by simp [meetsS1, c_26]
              have e2 : meetsS2 (recoversS s (s 7 key)) (s 7 key) = (recoversS s (s 7 key)) := by simp [meetsS2, c_39]
              have e3 : meetsS3 (recoversS s (s 7 key)) (s 7 key) key = (recoversS s (s 7 key)) := by simp [meetsS3, sset_eq, c_56]
              have e4 : meetsS s t key = (recoversS s (s 7 key)) := by rw [meetsS, if_neg (fun h => h.elim c_9 c_14), e1, e2, e3]
              exact v_iret (pc := 80) O hr (Nat.le_refl _) (Nat.le_refl _) dX5_meets_80 ⟨_, rfl, ⟨by rw [meetsF, if_neg (fun h => h.elim c_9 c_14), e4]; simp [sset_eq, sset_f, c_56, c_72], by rw [e4]; exact hR⟩⟩
            · refine v_iload_n (pc := 75) O dX5_meets_75 rfl ?_
              refine v_goto (pc := 76) O (tgt := 80) dX5_meets_76 (by decide) ?_
              have e1 : meetsS1 s (s 7 key) = (recoversS s (s 7 key)) := by simp [meetsS1, c_26]
              have e2 : meetsS2 (recoversS s (s 7 key)) (s 7 key) = (recoversS s (s 7 key)) := by simp [meetsS2, c_39]
              have e3 : meetsS3 (recoversS s (s 7 key)) (s 7 key) key = (recoversS s (s 7 key)) := by simp [meetsS3, sset_eq, c_56]
              have e4 : meetsS s t key = (recoversS s (s 7 key)) := by rw [meetsS, if_neg (fun h => h.elim c_9 c_14), e1, e2, e3]
              exact v_iret (pc := 80) O hr (Nat.le_refl _) (Nat.le_refl _) dX5_meets_80 ⟨_, rfl, ⟨by rw [meetsF, if_neg (fun h => h.elim c_9 c_14), e4]; simp [sset_eq, sset_f, c_56, c_72], by rw [e4]; exact hR⟩⟩
          · refine v_aload_n (pc := 59) O dX5_meets_59 rfl ?_
            refine vm_get (pc := 60) O hR 7 rfl q2050 rfl dX5_meets_60 ?_
            refine v_iload_n (pc := 63) O dX5_meets_63 rfl ?_
            refine v_iconst (pc := 64) O (x := -1) dX5_meets_64 (by decide) ?_
            refine vm_iast (pc := 65) O hR 7 rfl rfl h_key dX5_meets_65 (fun μ hR => ?_)
            refine v_aload_n (pc := 66) O dX5_meets_66 rfl ?_
            refine vm_get (pc := 67) O hR 23 rfl q2066 rfl dX5_meets_67 ?_
            refine v_iload_n (pc := 70) O dX5_meets_70 rfl ?_
            refine vm_iald (pc := 71) O hR 23 rfl rfl (WfM.own hW c_9) (x := ((recoversS s (s 7 key)) 23 (s 7 key))) ((sset_f (by decide)).trans rfl) dX5_meets_71 ?_
            refine v_if_ne (pc := 72) (tgt := 79) O dX5_meets_72 (by decide) (fun c_72 => ?_) (fun c_72 => ?_)
            · refine v_iconst (pc := 79) O (x := -1) dX5_meets_79 (by decide) ?_
              have e1 : meetsS1 s (s 7 key) = (recoversS s (s 7 key)) := by simp [meetsS1, c_26]
              have e2 : meetsS2 (recoversS s (s 7 key)) (s 7 key) = (recoversS s (s 7 key)) := by simp [meetsS2, c_39]
              have e3 : meetsS3 (recoversS s (s 7 key)) (s 7 key) key = (sset (recoversS s (s 7 key)) 7 key (-1)) := by simp [meetsS3, sset_eq, c_56]
              have e4 : meetsS s t key = (sset (recoversS s (s 7 key)) 7 key (-1)) := by rw [meetsS, if_neg (fun h => h.elim c_9 c_14), e1, e2, e3]
              exact v_iret (pc := 80) O hr (Nat.le_refl _) (Nat.le_refl _) dX5_meets_80 ⟨_, rfl, ⟨by rw [meetsF, if_neg (fun h => h.elim c_9 c_14), e4]; simp [sset_eq, sset_f, c_56, c_72], by rw [e4]; exact hR⟩⟩
            · refine v_iload_n (pc := 75) O dX5_meets_75 rfl ?_
              refine v_goto (pc := 76) O (tgt := 80) dX5_meets_76 (by decide) ?_
              have e1 : meetsS1 s (s 7 key) = (recoversS s (s 7 key)) := by simp [meetsS1, c_26]
              have e2 : meetsS2 (recoversS s (s 7 key)) (s 7 key) = (recoversS s (s 7 key)) := by simp [meetsS2, c_39]
              have e3 : meetsS3 (recoversS s (s 7 key)) (s 7 key) key = (sset (recoversS s (s 7 key)) 7 key (-1)) := by simp [meetsS3, sset_eq, c_56]
              have e4 : meetsS s t key = (sset (recoversS s (s 7 key)) 7 key (-1)) := by rw [meetsS, if_neg (fun h => h.elim c_9 c_14), e1, e2, e3]
              exact absurd (c_56.symm.trans c_72) (by decide)
        · refine v_aload_n (pc := 42) O dX5_meets_42 rfl ?_
          refine vm_get (pc := 43) O hR 23 rfl q2066 rfl dX5_meets_43 ?_
          refine v_iload_n (pc := 46) O dX5_meets_46 rfl ?_
          refine v_iconst (pc := 47) O (x := 3) dX5_meets_47 (by decide) ?_
          refine vm_iast (pc := 48) O hR 23 rfl rfl (WfM.own hW c_9) dX5_meets_48 (fun μ hR => ?_)
          refine v_aload_n (pc := 49) O dX5_meets_49 rfl ?_
          refine vm_get (pc := 50) O hR 23 rfl q2066 rfl dX5_meets_50 ?_
          refine v_iload_n (pc := 53) O dX5_meets_53 rfl ?_
          refine vm_iald (pc := 54) O hR 23 rfl rfl (WfM.own hW c_9) (x := 3) sset_eq dX5_meets_54 ?_
          refine v_iconst (pc := 55) O (x := 3) dX5_meets_55 (by decide) ?_
          refine v_icmp_ne (pc := 56) (tgt := 66) O dX5_meets_56 (by decide) (fun c => absurd (by decide) c) (fun _ => ?_)
          refine v_aload_n (pc := 59) O dX5_meets_59 rfl ?_
          refine vm_get (pc := 60) O hR 7 rfl q2050 rfl dX5_meets_60 ?_
          refine v_iload_n (pc := 63) O dX5_meets_63 rfl ?_
          refine v_iconst (pc := 64) O (x := -1) dX5_meets_64 (by decide) ?_
          refine vm_iast (pc := 65) O hR 7 rfl rfl h_key dX5_meets_65 (fun μ hR => ?_)
          refine v_aload_n (pc := 66) O dX5_meets_66 rfl ?_
          refine vm_get (pc := 67) O hR 23 rfl q2066 rfl dX5_meets_67 ?_
          refine v_iload_n (pc := 70) O dX5_meets_70 rfl ?_
          refine vm_iald (pc := 71) O hR 23 rfl rfl (WfM.own hW c_9) (x := 3) ((sset_f (by decide)).trans sset_eq) dX5_meets_71 ?_
          refine v_if_ne (pc := 72) (tgt := 79) O dX5_meets_72 (by decide) (fun _ => ?_) (fun c => absurd c (by decide))
          refine v_iconst (pc := 79) O (x := -1) dX5_meets_79 (by decide) ?_
          have e1 : meetsS1 s (s 7 key) = (recoversS s (s 7 key)) := by simp [meetsS1, c_26]
          have e2 : meetsS2 (recoversS s (s 7 key)) (s 7 key) = (sset (recoversS s (s 7 key)) 23 (s 7 key) 3) := by simp [meetsS2, c_39]
          have e3 : meetsS3 (sset (recoversS s (s 7 key)) 23 (s 7 key) 3) (s 7 key) key = (sset (sset (recoversS s (s 7 key)) 23 (s 7 key) 3) 7 key (-1)) := by simp [meetsS3, sset_eq]
          have e4 : meetsS s t key = (sset (sset (recoversS s (s 7 key)) 23 (s 7 key) 3) 7 key (-1)) := by rw [meetsS, if_neg (fun h => h.elim c_9 c_14), e1, e2, e3]
          exact v_iret (pc := 80) O hr (Nat.le_refl _) (Nat.le_refl _) dX5_meets_80 ⟨_, rfl, ⟨by rw [meetsF, if_neg (fun h => h.elim c_9 c_14), e4]; simp [sset_eq, sset_f], by rw [e4]; exact hR⟩⟩
    · refine v_iconst (pc := 17) O (x := -1) dX5_meets_17 (by decide) ?_
      exact v_iret (pc := 18) O hr (Nat.le_refl _) (Nat.le_refl _) dX5_meets_18 ⟨_, rfl, ⟨by simp [meetsF, c_14], by simpa [meetsS, c_14] using hR⟩⟩
theorem ir_n1 {t : Int32} (h : ir t (nI 40)) : ¬ t = -1 := by
  rw [ir_int (by decide)] at h
  rw [i_eq]
  have e1 : (-1 : Int32).toInt = -1 := by decide
  omega
theorem ir_w {o : Int32} (h : ir o (nI 40)) : -1 ≤ o ∧ o < 40 := by
  rw [ir_int (by decide)] at h
  rw [i_le, i_lt]
  have e1 : (-1 : Int32).toInt = -1 := by decide
  have e2 : (40 : Int32).toInt = 40 := by decide
  omega
theorem sp_lt {σ : St} {key : Int32} {j : Nat} (h1 : 1 ≤ σ 4 0) (h31 : σ 4 0 ≤ 31) (hj : j ≤ nat (σ 4 0 - (rangeOfF σ key + 1))) (c : ¬ σ 4 0 - nI j ≤ rangeOfF σ key + 1) : j < nat (σ 4 0 - (rangeOfF σ key + 1)) ∧ ir (σ 4 0 - nI j) (nI 32) ∧ ir (σ 4 0 - nI j - 1) (nI 32) ∧ σ 4 0 - nI j + Int32.ofInt (-1) = σ 4 0 - nI (j + 1) := by
  obtain ⟨g1, g2⟩ := rangeOf_in (key := key) h1
  rw [i_le] at h1 h31 c
  have e1 : (1 : Int32).toInt = 1 := by decide
  have e31 : (31 : Int32).toInt = 31 := by decide
  have a1 := i_add (a := rangeOfF σ key) (b := 1) (by omega) (by omega)
  have a2 := i_sub (a := σ 4 0) (b := rangeOfF σ key + 1) (by omega) (by omega)
  have a3 := (i_nat (a := σ 4 0 - (rangeOfF σ key + 1)) (by omega)).2
  have hj' : j ≤ 31 := by unfold nat at hj; omega
  have a4 := nI_toInt (n := j) (by omega)
  have a5 := i_sub (a := σ 4 0) (b := nI j) (by omega) (by omega)
  have a6 := i_sub (a := σ 4 0 - nI j) (b := 1) (by omega) (by omega)
  refine ⟨by unfold nat; omega, by rw [ir_int (by decide)]; omega, by rw [ir_int (by decide)]; omega, ?_⟩
  rw [i_eq]
  have a7 := nI_toInt (n := j + 1) (by omega)
  have a8 := i_sub (a := σ 4 0) (b := nI (j + 1)) (by omega) (by omega)
  have em : (Int32.ofInt (-1)).toInt = -1 := by decide
  rw [i_add (by omega) (by omega)]
  omega
theorem sp_out {σ : St} {key : Int32} {j : Nat} (h1 : 1 ≤ σ 4 0) (h31 : σ 4 0 ≤ 31) (hj : j ≤ nat (σ 4 0 - (rangeOfF σ key + 1))) (c : σ 4 0 - nI j ≤ rangeOfF σ key + 1) : j = nat (σ 4 0 - (rangeOfF σ key + 1)) := by
  obtain ⟨g1, g2⟩ := rangeOf_in (key := key) h1
  rw [i_le] at h1 h31 c
  have e1 : (1 : Int32).toInt = 1 := by decide
  have e31 : (31 : Int32).toInt = 31 := by decide
  have a1 := i_add (a := rangeOfF σ key) (b := 1) (by omega) (by omega)
  have a2 := i_sub (a := σ 4 0) (b := rangeOfF σ key + 1) (by omega) (by omega)
  have a3 := (i_nat (a := σ 4 0 - (rangeOfF σ key + 1)) (by omega)).2
  have hj' : j ≤ 31 := by unfold nat at hj; omega
  have a4 := nI_toInt (n := j) (by omega)
  have a5 := i_sub (a := σ 4 0) (b := nI j) (by omega) (by omega)
  unfold nat at hj ⊢
  omega
theorem sp_at {σ : St} {key : Int32} (h1 : 1 ≤ σ 4 0) (h31 : σ 4 0 ≤ 31) : ir (rangeOfF σ key + 1) (nI 32) ∧ ir (rangeOfF σ key + 1 - 1) (nI 32) := by
  obtain ⟨g1, g2⟩ := rangeOf_in (key := key) h1
  rw [i_le] at h1 h31
  have e1 : (1 : Int32).toInt = 1 := by decide
  have e31 : (31 : Int32).toInt = 31 := by decide
  have a1 := i_add (a := rangeOfF σ key) (b := 1) (by omega) (by omega)
  have a2 := i_sub (a := rangeOfF σ key + 1) (b := 1) (by omega) (by omega)
  rw [ir_int (by decide), ir_int (by decide)]
  omega
theorem mg_lt {r : Int32} {j : Nat} {R : Int32} (hr : 0 ≤ r.toInt ∧ r.toInt + 2 ≤ R.toInt ∧ R.toInt ≤ 32) (hj : j ≤ nat (R - 1 - (r + 1))) : (¬ R - 1 ≤ r + 1 + nI j → j < nat (R - 1 - (r + 1)) ∧ ir (r + 1 + nI j) (nI 32) ∧ ir (r + 1 + nI j + 1) (nI 32)) ∧ (R - 1 ≤ r + 1 + nI j → j = nat (R - 1 - (r + 1))) ∧ r + 1 + nI j + Int32.ofInt 1 = r + 1 + nI (j + 1) := by
  have e1 : (1 : Int32).toInt = 1 := by decide
  have a1 := i_add (a := r) (b := 1) (by omega) (by omega)
  have a0 := i_sub (a := R) (b := 1) (by omega) (by omega)
  have a2 := i_sub (a := R - 1) (b := r + 1) (by omega) (by omega)
  have a3 := (i_nat (a := R - 1 - (r + 1)) (by omega)).2
  have hj' : j ≤ 31 := by unfold nat at hj; omega
  have a4 := nI_toInt (n := j) (by omega)
  have a5 := i_add (a := r + 1) (b := nI j) (by unfold nat at hj; omega) (by unfold nat at hj; omega)
  unfold nat at hj ⊢
  refine ⟨fun c => ?_, fun c => ?_, ?_⟩
  · rw [i_le] at c
    have a6 := i_add (a := r + 1 + nI j) (b := 1) (by omega) (by omega)
    rw [ir_int (by decide), ir_int (by decide)]
    omega
  · rw [i_le] at c
    omega
  · rw [Int32.add_assoc]
    congr 1
    exact nI_1 j
theorem sp_0 {x : Int32} : x = x - nI 0 := by rw [nI_0]; simp
set_option maxHeartbeats 4000000 in
theorem mm_split (l : Launch) (Γ : Gm) (ad : Nat → Nat) (key : Int32) {s : St} {μ0 : Mem} {B : Nat} (hW : WfM B s) (hsp : inB key 1 31 = true → ¬ s 5 (rangeOfF s key) = key → s 4 0 ≤ 31) (hR : RepM Γ ad s μ0) : MetV l Γ yX5_split cX5_split 4 (some .int) 3 0 0 [.ref (ad 0), .int key] μ0 (PI (fun r9 μ1 => r9 = (splitO s key).2 ∧ RepM Γ ad ((splitO s key).1) μ1)) := by
  refine MetV.of (by decide +kernel) rfl ?_
  intro X sz hl hr hnm O
  subst hl
  show V X Γ _ 4 _ 0 0 μ0 0 [(0, .ref (ad 0)), (1, .int key)] []
  refine v_aload_n (pc := 0) O dX5_split_0 rfl ?_
  refine v_iload_n (pc := 1) O dX5_split_1 rfl ?_
  refine v_iconst (pc := 2) O (x := 1) dX5_split_2 (by decide) ?_
  refine v_bipush (pc := 3) O (x := 31) dX5_split_3 (by decide) ?_
  refine v_callSi0 (pc := 5) (nA := 3) O (mm_in (xL X) Γ key 1 31 _) q2149 q2150 q71 q2151 (by decide +kernel) rfl rfl rfl rfl (Nat.le_of_ble_eq_true rfl) (Nat.le_refl _) (Nat.le_refl _) dX5_split_5 (fun x μ1 h => ?_)
  obtain ⟨rfl, rfl⟩ := h
  refine v_if_ne_b (pc := 8) (tgt := 15) O dX5_split_8 (by decide) (fun c_8 => ?_) (fun c_8 => ?_)
  · refine v_aload_n (pc := 15) O dX5_split_15 rfl ?_
    refine vm_get (pc := 16) O hR 5 rfl q2048 rfl dX5_split_16 ?_
    refine v_aload_n (pc := 19) O dX5_split_19 rfl ?_
    refine v_iload_n (pc := 20) O dX5_split_20 rfl ?_
    refine v_callVi0 (pc := 21) (nA := 1) O (mm_rangeOf (xL X) Γ ad key hW hR) hR.1 rfl q2183 q2185 qs24 q71 q2186 (by decide +kernel) rfl rfl rfl rfl (Nat.le_of_ble_eq_true rfl) (Nat.le_refl _) (Nat.le_refl _) dX5_split_21 (fun x μ h => ?_)
    obtain ⟨rfl, hR⟩ := h
    refine vm_iald (pc := 24) O hR 5 rfl rfl (rng_ir hW) (x := (s 5 (rangeOfF s key))) rfl dX5_split_24 ?_
    refine v_iload_n (pc := 25) O dX5_split_25 rfl ?_
    refine v_icmp_ne (pc := 26) (tgt := 33) O dX5_split_26 (by decide) (fun c_26 => ?_) (fun c_26 => ?_)
    · have hsp := hsp c_8 c_26
      refine v_iconst (pc := 33) O (x := 0) dX5_split_33 (by decide) ?_
      refine vm_put (pc := 34) O hR 31 (by decide) q2074 dX5_split_34 (fun μ hR => ?_)
      refine v_aload_n (pc := 37) O dX5_split_37 rfl ?_
      refine vm_geti (pc := 38) O hR 31 rfl q2074 (x := 0) rfl sset_eq dX5_split_38 ?_
      refine v_if_le (pc := 41) (tgt := 46) O dX5_split_41 (by decide) (fun _ => ?_) (fun c => absurd (by decide) c)
      refine v_aload_n (pc := 46) O dX5_split_46 rfl ?_
      refine v_iload_n (pc := 47) O dX5_split_47 rfl ?_
      refine v_callVi0 (pc := 48) (nA := 1) O (mm_rangeOf (xL X) Γ ad key (WfM.oth hW (by decide)) hR) hR.1 rfl q2183 q2185 qs24 q71 q2186 (by decide +kernel) rfl rfl rfl rfl (Nat.le_of_ble_eq_true rfl) (Nat.le_refl _) (Nat.le_refl _) dX5_split_48 (fun x μ h => ?_)
      obtain ⟨hx, hR⟩ := h
      rw [rng_oth (by decide) (by decide)] at hx
      subst hx
      refine v_iconst (pc := 51) O (x := 1) dX5_split_51 (by decide) ?_
      refine v_iadd (pc := 52) O dX5_split_52 ?_
      refine v_istore_n (pc := 53) (lv' := [(2, .int ((rangeOfF s key) + 1)), (0, .ref (ad 0)), (1, .int key)]) O dX5_split_53 rfl rfl ?_
      refine v_aload_n (pc := 54) O dX5_split_54 rfl ?_
      refine vm_geti (pc := 55) O hR 4 rfl q2047 (x := (s 4 0)) rfl ((sset_f (by decide)).trans rfl) dX5_split_55 ?_
      refine v_istore_n (pc := 58) (lv' := [(3, .int (s 4 0)), (2, .int ((rangeOfF s key) + 1)), (0, .ref (ad 0)), (1, .int key)]) O dX5_split_58 rfl rfl ?_
      have L59 : ∀ (d59 j59 : Nat) (s59 : St) (v59_3 : Int32) (μ : Mem), nat (s 4 0 - (rangeOfF s key + 1)) < d59 + j59 → j59 ≤ nat (s 4 0 - (rangeOfF s key + 1)) → s59 = iter (shUp (s 4 0)) j59 (sset s 31 0 0) → v59_3 = s 4 0 - nI j59 → s59 4 0 = s 4 0 → RepM Γ ad s59 μ → V X Γ (gA μ0 sz) 4 (QV X Γ μ0 sz (PI (fun r9 μ1 => r9 = (splitO s key).2 ∧ RepM Γ ad ((splitO s key).1) μ1)) 0 0) 0 0 μ 59 [(3, .int v59_3), (2, .int ((rangeOfF s key) + 1)), (0, .ref (ad 0)), (1, .int key)] [] := by
        intro d59
        induction d59 with
        | zero => intro j59 s59 v59_3 μ h1 h2; exact absurd h1 (by omega)
        | succ d59 ih59 =>
          intro j59 s59 v59_3 μ hd hj59 he59 hv59 hq59 hR
          subst hv59
          refine v_iload_n (pc := 59) O dX5_split_59 rfl ?_
          refine v_iload_n (pc := 60) O dX5_split_60 rfl ?_
          refine v_icmp_le (pc := 61) (tgt := 98) O dX5_split_61 (by decide) (fun c_61 => ?_) (fun c_61 => ?_)
          · have hx59 := sp_out hW.2.2.1.1 hsp hj59 c_61
            subst hx59
            refine v_aload_n (pc := 98) O dX5_split_98 rfl ?_
            refine vm_get (pc := 99) O hR 5 rfl q2048 rfl dX5_split_99 ?_
            refine v_iload_n (pc := 102) O dX5_split_102 rfl ?_
            refine v_iload_n (pc := 103) O dX5_split_103 rfl ?_
            refine vm_iast (pc := 104) O hR 5 rfl rfl (sp_at hW.2.2.1.1 hsp).1 dX5_split_104 (fun μ hR => ?_)
            refine v_aload_n (pc := 105) O dX5_split_105 rfl ?_
            refine vm_get (pc := 106) O hR 6 rfl q2049 rfl dX5_split_106 ?_
            refine v_iload_n (pc := 109) O dX5_split_109 rfl ?_
            refine v_aload_n (pc := 110) O dX5_split_110 rfl ?_
            refine vm_get (pc := 111) O hR 6 rfl q2049 rfl dX5_split_111 ?_
            refine v_iload_n (pc := 114) O dX5_split_114 rfl ?_
            refine v_iconst (pc := 115) O (x := 1) dX5_split_115 (by decide) ?_
            refine v_isub (pc := 116) O dX5_split_116 ?_
            refine vm_iald (pc := 117) O hR 6 rfl rfl (sp_at hW.2.2.1.1 hsp).2 (x := (s59 6 (((rangeOfF s key) + 1) - 1))) ((sset_f (by decide)).trans rfl) dX5_split_117 ?_
            refine vm_iast (pc := 118) O hR 6 rfl rfl (sp_at hW.2.2.1.1 hsp).1 dX5_split_118 (fun μ hR => ?_)
            refine v_aload_n (pc := 119) O dX5_split_119 rfl ?_
            refine v_dup (pc := 120) O dX5_split_120 rfl ?_
            refine vm_geti (pc := 121) O hR 4 rfl q2047 (x := (s59 4 0)) rfl ((sset_f (by decide)).trans ((sset_f (by decide)).trans rfl)) dX5_split_121 ?_
            refine v_iconst (pc := 124) O (x := 1) dX5_split_124 (by decide) ?_
            refine v_iadd (pc := 125) O dX5_split_125 ?_
            refine vm_put (pc := 126) O hR 4 (by decide) q2047 dX5_split_126 (fun μ hR => ?_)
            refine v_aload_n (pc := 129) O dX5_split_129 rfl ?_
            refine vm_geti (pc := 130) O hR 4 rfl q2047 (x := ((s59 4 0) + 1)) rfl sset_eq dX5_split_130 ?_
            exact v_iret (pc := 133) O hr (Nat.le_refl _) (Nat.le_refl _) dX5_split_133 ⟨_, rfl, ⟨by simp [splitO, c_8, c_26, c_61, ← he59, hq59], by simpa [splitO, c_8, c_26, c_61, ← he59, hq59] using hR⟩⟩
          · obtain ⟨hj59lt, h59a, h59b, h59c⟩ := sp_lt hW.2.2.1.1 hsp hj59 c_61
            refine v_aload_n (pc := 64) O dX5_split_64 rfl ?_
            refine vm_get (pc := 65) O hR 5 rfl q2048 rfl dX5_split_65 ?_
            refine v_iload_n (pc := 68) O dX5_split_68 rfl ?_
            refine v_aload_n (pc := 69) O dX5_split_69 rfl ?_
            refine vm_get (pc := 70) O hR 5 rfl q2048 rfl dX5_split_70 ?_
            refine v_iload_n (pc := 73) O dX5_split_73 rfl ?_
            refine v_iconst (pc := 74) O (x := 1) dX5_split_74 (by decide) ?_
            refine v_isub (pc := 75) O dX5_split_75 ?_
            refine vm_iald (pc := 76) O hR 5 rfl rfl h59b (x := (s59 5 (((s 4 0) - (nI j59)) - 1))) rfl dX5_split_76 ?_
            refine vm_iast (pc := 77) O hR 5 rfl rfl h59a dX5_split_77 (fun μ hR => ?_)
            refine v_aload_n (pc := 78) O dX5_split_78 rfl ?_
            refine vm_get (pc := 79) O hR 6 rfl q2049 rfl dX5_split_79 ?_
            refine v_iload_n (pc := 82) O dX5_split_82 rfl ?_
            refine v_aload_n (pc := 83) O dX5_split_83 rfl ?_
            refine vm_get (pc := 84) O hR 6 rfl q2049 rfl dX5_split_84 ?_
            refine v_iload_n (pc := 87) O dX5_split_87 rfl ?_
            refine v_iconst (pc := 88) O (x := 1) dX5_split_88 (by decide) ?_
            refine v_isub (pc := 89) O dX5_split_89 ?_
            refine vm_iald (pc := 90) O hR 6 rfl rfl h59b (x := (s59 6 (((s 4 0) - (nI j59)) - 1))) ((sset_f (by decide)).trans rfl) dX5_split_90 ?_
            refine vm_iast (pc := 91) O hR 6 rfl rfl h59a dX5_split_91 (fun μ hR => ?_)
            refine v_iinc (pc := 92) (y := ((s 4 0) - (nI (j59 + 1)))) (lv' := [(3, .int ((s 4 0) - (nI (j59 + 1)))), (2, .int ((rangeOfF s key) + 1)), (0, .ref (ad 0)), (1, .int key)]) O dX5_split_92 rfl h59c rfl rfl ?_
            refine v_goto (pc := 95) O (tgt := 59) dX5_split_95 (by decide) ?_
            exact v_locs [0, 1, 2, 3] rfl (ih59 (j59 + 1) (sset (sset s59 5 ((s 4 0) - (nI j59)) (s59 5 (((s 4 0) - (nI j59)) - 1))) 6 ((s 4 0) - (nI j59)) (s59 6 (((s 4 0) - (nI j59)) - 1))) ((s 4 0) - (nI (j59 + 1))) _ (by omega) (by omega) (by rw [iter_s, ← he59, shUp]) rfl (by rw [sset_f (by decide), sset_f (by decide)]; exact hq59) hR)
      exact v_locs [0, 1, 2, 3] rfl (L59 (nat (s 4 0 - (rangeOfF s key + 1)) + 1) 0 (sset s 31 0 0) (s 4 0) _ (by omega) (by omega) iter_0.symm sp_0 (sset_f (by decide)) hR)
    · refine v_iconst (pc := 29) O (x := 2) dX5_split_29 (by decide) ?_
      refine v_goto (pc := 30) O (tgt := 34) dX5_split_30 (by decide) ?_
      refine vm_put (pc := 34) O hR 31 (by decide) q2074 dX5_split_34 (fun μ hR => ?_)
      refine v_aload_n (pc := 37) O dX5_split_37 rfl ?_
      refine vm_geti (pc := 38) O hR 31 rfl q2074 (x := 2) rfl sset_eq dX5_split_38 ?_
      refine v_if_le (pc := 41) (tgt := 46) O dX5_split_41 (by decide) (fun c => absurd c (by decide)) (fun _ => ?_)
      refine v_iconst (pc := 44) O (x := 0) dX5_split_44 (by decide) ?_
      exact v_iret (pc := 45) O hr (Nat.le_refl _) (Nat.le_refl _) dX5_split_45 ⟨_, rfl, ⟨by simp [splitO, c_8, c_26], by simpa [splitO, c_8, c_26] using hR⟩⟩
  · refine v_iconst (pc := 11) O (x := 1) dX5_split_11 (by decide) ?_
    refine v_goto (pc := 12) O (tgt := 34) dX5_split_12 (by decide) ?_
    refine vm_put (pc := 34) O hR 31 (by decide) q2074 dX5_split_34 (fun μ hR => ?_)
    refine v_aload_n (pc := 37) O dX5_split_37 rfl ?_
    refine vm_geti (pc := 38) O hR 31 rfl q2074 (x := 1) rfl sset_eq dX5_split_38 ?_
    refine v_if_le (pc := 41) (tgt := 46) O dX5_split_41 (by decide) (fun c => absurd c (by decide)) (fun _ => ?_)
    refine v_iconst (pc := 44) O (x := 0) dX5_split_44 (by decide) ?_
    exact v_iret (pc := 45) O hr (Nat.le_refl _) (Nat.le_refl _) dX5_split_45 ⟨_, rfl, ⟨by simp [splitO, c_8], by simpa [splitO, c_8] using hR⟩⟩
theorem mg_r {r : Int32} {R : Int32} (h1 : ir r (nI 32)) (h2 : r.toInt + (2 : Int32).toInt ≤ R.toInt) (h3 : R ≤ 32) : 0 ≤ r.toInt ∧ r.toInt + 2 ≤ R.toInt ∧ R.toInt ≤ 32 := by
  rw [ir_int (by decide)] at h1
  rw [i_le] at h3
  have e2 : (2 : Int32).toInt = 2 := by decide
  have e3 : (32 : Int32).toInt = 32 := by decide
  omega
theorem mg_ir {r R : Int32} (h : 0 ≤ r.toInt ∧ r.toInt + 2 ≤ R.toInt ∧ R.toInt ≤ 32) : ir (r + 1) (nI 32) := by
  have e1 : (1 : Int32).toInt = 1 := by decide
  have a1 := i_add (a := r) (b := 1) (by omega) (by omega)
  rw [ir_int (by decide)]
  omega
theorem mg_0 {x : Int32} : x = x + nI 0 := by rw [nI_0]; simp
set_option maxHeartbeats 4000000 in
theorem mm_merge (l : Launch) (Γ : Gm) (ad : Nat → Nat) (r : Int32) {s : St} {μ0 : Mem} {B : Nat} (hW : WfM B s) (hR : RepM Γ ad s μ0) : MetV l Γ yX5_merge cX5_merge 3 (some .int) 3 0 0 [.ref (ad 0), .int r] μ0 (PI (fun r9 μ1 => r9 = (mergeO s r).2 ∧ RepM Γ ad ((mergeO s r).1) μ1)) := by
  refine MetV.of (by decide +kernel) rfl ?_
  intro X sz hl hr hnm O
  subst hl
  show V X Γ _ 3 _ 0 0 μ0 0 [(0, .ref (ad 0)), (1, .int r)] []
  refine v_aload_n (pc := 0) O dX5_merge_0 rfl ?_
  refine v_iload_n (pc := 1) O dX5_merge_1 rfl ?_
  refine v_iconst (pc := 2) O (x := 0) dX5_merge_2 (by decide) ?_
  refine v_aload_n (pc := 3) O dX5_merge_3 rfl ?_
  refine vm_geti (pc := 4) O hR 4 rfl q2047 (x := (s 4 0)) rfl rfl dX5_merge_4 ?_
  refine v_iconst (pc := 7) O (x := 2) dX5_merge_7 (by decide) ?_
  refine v_isub (pc := 8) O dX5_merge_8 ?_
  refine v_callSi0 (pc := 9) (nA := 3) O (mm_in (xL X) Γ r 0 ((s 4 0) - 2) _) q2149 q2150 q71 q2151 (by decide +kernel) rfl rfl rfl rfl (Nat.le_of_ble_eq_true rfl) (Nat.le_refl _) (Nat.le_refl _) dX5_merge_9 (fun x μ1 h => ?_)
  obtain ⟨rfl, rfl⟩ := h
  refine v_if_ne_b (pc := 12) (tgt := 19) O dX5_merge_12 (by decide) (fun c_12 => ?_) (fun c_12 => ?_)
  · have hrx := hW.rix (Or.inr rfl) c_12
    have hr1 := mg_r hrx.1 hrx.2 hW.2.2.1.2
    refine v_aload_n (pc := 19) O dX5_merge_19 rfl ?_
    refine vm_get (pc := 20) O hR 6 rfl q2049 rfl dX5_merge_20 ?_
    refine v_iload_n (pc := 23) O dX5_merge_23 rfl ?_
    refine vm_iald (pc := 24) O hR 6 rfl rfl hrx.1 (x := (s 6 r)) rfl dX5_merge_24 ?_
    refine v_aload_n (pc := 25) O dX5_merge_25 rfl ?_
    refine vm_get (pc := 26) O hR 6 rfl q2049 rfl dX5_merge_26 ?_
    refine v_iload_n (pc := 29) O dX5_merge_29 rfl ?_
    refine v_iconst (pc := 30) O (x := 1) dX5_merge_30 (by decide) ?_
    refine v_iadd (pc := 31) O dX5_merge_31 ?_
    refine vm_iald (pc := 32) O hR 6 rfl rfl (mg_ir hr1) (x := (s 6 (r + 1))) rfl dX5_merge_32 ?_
    refine v_icmp_eq (pc := 33) (tgt := 40) O dX5_merge_33 (by decide) (fun c_33 => ?_) (fun c_33 => ?_)
    · refine v_iconst (pc := 40) O (x := 0) dX5_merge_40 (by decide) ?_
      refine vm_put (pc := 41) O hR 31 (by decide) q2074 dX5_merge_41 (fun μ hR => ?_)
      refine v_aload_n (pc := 44) O dX5_merge_44 rfl ?_
      refine vm_geti (pc := 45) O hR 31 rfl q2074 (x := 0) rfl sset_eq dX5_merge_45 ?_
      refine v_if_le (pc := 48) (tgt := 53) O dX5_merge_48 (by decide) (fun _ => ?_) (fun c => absurd (by decide) c)
      refine v_aload_n (pc := 53) O dX5_merge_53 rfl ?_
      refine v_dup (pc := 54) O dX5_merge_54 rfl ?_
      refine vm_geti (pc := 55) O hR 4 rfl q2047 (x := (s 4 0)) rfl ((sset_f (by decide)).trans rfl) dX5_merge_55 ?_
      refine v_iconst (pc := 58) O (x := 1) dX5_merge_58 (by decide) ?_
      refine v_isub (pc := 59) O dX5_merge_59 ?_
      refine vm_put (pc := 60) O hR 4 (by decide) q2047 dX5_merge_60 (fun μ hR => ?_)
      refine v_iload_n (pc := 63) O dX5_merge_63 rfl ?_
      refine v_iconst (pc := 64) O (x := 1) dX5_merge_64 (by decide) ?_
      refine v_iadd (pc := 65) O dX5_merge_65 ?_
      refine v_istore_n (pc := 66) (lv' := [(2, .int (r + 1)), (0, .ref (ad 0)), (1, .int r)]) O dX5_merge_66 rfl rfl ?_
      have L67 : ∀ (d67 j67 : Nat) (s67 : St) (v67_2 : Int32) (μ : Mem), nat (s 4 0 - 1 - (r + 1)) < d67 + j67 → j67 ≤ nat (s 4 0 - 1 - (r + 1)) → s67 = iter (shDown (r + 1)) j67 (sset (sset s 31 0 0) 4 0 ((s 4 0) - 1)) → v67_2 = r + 1 + nI j67 → s67 4 0 = s 4 0 - 1 → RepM Γ ad s67 μ → V X Γ (gA μ0 sz) 3 (QV X Γ μ0 sz (PI (fun r9 μ1 => r9 = (mergeO s r).2 ∧ RepM Γ ad ((mergeO s r).1) μ1)) 0 0) 0 0 μ 67 [(2, .int v67_2), (0, .ref (ad 0)), (1, .int r)] [] := by
        intro d67
        induction d67 with
        | zero => intro j67 s67 v67_2 μ h1 h2; exact absurd h1 (by omega)
        | succ d67 ih67 =>
          intro j67 s67 v67_2 μ hd hj67 he67 hv67 hq67 hR
          subst hv67
          refine v_iload_n (pc := 67) O dX5_merge_67 rfl ?_
          refine v_aload_n (pc := 68) O dX5_merge_68 rfl ?_
          refine vm_geti (pc := 69) O hR 4 rfl q2047 (x := (s67 4 0)) rfl rfl dX5_merge_69 ?_
          rw [hq67]
          refine v_icmp_ge (pc := 72) (tgt := 109) O dX5_merge_72 (by decide) (fun c_72 => ?_) (fun c_72 => ?_)
          · have hm67 := mg_lt hr1 hj67
            have hx67 := hm67.2.1 c_72
            subst hx67
            refine v_aload_n (pc := 109) O dX5_merge_109 rfl ?_
            refine vm_geti (pc := 110) O hR 4 rfl q2047 (x := (s67 4 0)) rfl rfl dX5_merge_110 ?_
            exact v_iret (pc := 113) O hr (Nat.le_refl _) (Nat.le_refl _) dX5_merge_113 ⟨_, rfl, ⟨by simp [mergeO, c_12, c_33, c_72, ← he67, hq67], by simpa [mergeO, c_12, c_33, c_72, ← he67, hq67] using hR⟩⟩
          · have hm67 := mg_lt hr1 hj67
            obtain ⟨hj67lt, h67a, h67b⟩ := hm67.1 c_72
            refine v_aload_n (pc := 75) O dX5_merge_75 rfl ?_
            refine vm_get (pc := 76) O hR 5 rfl q2048 rfl dX5_merge_76 ?_
            refine v_iload_n (pc := 79) O dX5_merge_79 rfl ?_
            refine v_aload_n (pc := 80) O dX5_merge_80 rfl ?_
            refine vm_get (pc := 81) O hR 5 rfl q2048 rfl dX5_merge_81 ?_
            refine v_iload_n (pc := 84) O dX5_merge_84 rfl ?_
            refine v_iconst (pc := 85) O (x := 1) dX5_merge_85 (by decide) ?_
            refine v_iadd (pc := 86) O dX5_merge_86 ?_
            refine vm_iald (pc := 87) O hR 5 rfl rfl h67b (x := (s67 5 (((r + 1) + (nI j67)) + 1))) rfl dX5_merge_87 ?_
            refine vm_iast (pc := 88) O hR 5 rfl rfl h67a dX5_merge_88 (fun μ hR => ?_)
            refine v_aload_n (pc := 89) O dX5_merge_89 rfl ?_
            refine vm_get (pc := 90) O hR 6 rfl q2049 rfl dX5_merge_90 ?_
            refine v_iload_n (pc := 93) O dX5_merge_93 rfl ?_
            refine v_aload_n (pc := 94) O dX5_merge_94 rfl ?_
            refine vm_get (pc := 95) O hR 6 rfl q2049 rfl dX5_merge_95 ?_
            refine v_iload_n (pc := 98) O dX5_merge_98 rfl ?_
            refine v_iconst (pc := 99) O (x := 1) dX5_merge_99 (by decide) ?_
            refine v_iadd (pc := 100) O dX5_merge_100 ?_
            refine vm_iald (pc := 101) O hR 6 rfl rfl h67b (x := (s67 6 (((r + 1) + (nI j67)) + 1))) ((sset_f (by decide)).trans rfl) dX5_merge_101 ?_
            refine vm_iast (pc := 102) O hR 6 rfl rfl h67a dX5_merge_102 (fun μ hR => ?_)
            refine v_iinc (pc := 103) (y := ((r + 1) + (nI (j67 + 1)))) (lv' := [(2, .int ((r + 1) + (nI (j67 + 1)))), (0, .ref (ad 0)), (1, .int r)]) O dX5_merge_103 rfl (mg_lt hr1 hj67).2.2 rfl rfl ?_
            refine v_goto (pc := 106) O (tgt := 67) dX5_merge_106 (by decide) ?_
            exact v_locs [0, 1, 2] rfl (ih67 (j67 + 1) (sset (sset s67 5 ((r + 1) + (nI j67)) (s67 5 (((r + 1) + (nI j67)) + 1))) 6 ((r + 1) + (nI j67)) (s67 6 (((r + 1) + (nI j67)) + 1))) ((r + 1) + (nI (j67 + 1))) _ (by omega) (by omega) (by rw [iter_s, ← he67, shDown]) rfl (by rw [sset_f (by decide), sset_f (by decide)]; exact hq67) hR)
      exact v_locs [0, 1, 2] rfl (L67 (nat (s 4 0 - 1 - (r + 1)) + 1) 0 (sset (sset s 31 0 0) 4 0 ((s 4 0) - 1)) (r + 1) _ (by omega) (by omega) iter_0.symm mg_0 sset_eq hR)
    · refine v_iconst (pc := 36) O (x := 2) dX5_merge_36 (by decide) ?_
      refine v_goto (pc := 37) O (tgt := 41) dX5_merge_37 (by decide) ?_
      refine vm_put (pc := 41) O hR 31 (by decide) q2074 dX5_merge_41 (fun μ hR => ?_)
      refine v_aload_n (pc := 44) O dX5_merge_44 rfl ?_
      refine vm_geti (pc := 45) O hR 31 rfl q2074 (x := 2) rfl sset_eq dX5_merge_45 ?_
      refine v_if_le (pc := 48) (tgt := 53) O dX5_merge_48 (by decide) (fun c => absurd c (by decide)) (fun _ => ?_)
      refine v_iconst (pc := 51) O (x := 0) dX5_merge_51 (by decide) ?_
      exact v_iret (pc := 52) O hr (Nat.le_refl _) (Nat.le_refl _) dX5_merge_52 ⟨_, rfl, ⟨by simp [mergeO, c_12, c_33], by simpa [mergeO, c_12, c_33] using hR⟩⟩
  · refine v_iconst (pc := 15) O (x := 1) dX5_merge_15 (by decide) ?_
    refine v_goto (pc := 16) O (tgt := 41) dX5_merge_16 (by decide) ?_
    refine vm_put (pc := 41) O hR 31 (by decide) q2074 dX5_merge_41 (fun μ hR => ?_)
    refine v_aload_n (pc := 44) O dX5_merge_44 rfl ?_
    refine vm_geti (pc := 45) O hR 31 rfl q2074 (x := 1) rfl sset_eq dX5_merge_45 ?_
    refine v_if_le (pc := 48) (tgt := 53) O dX5_merge_48 (by decide) (fun c => absurd c (by decide)) (fun _ => ?_)
    refine v_iconst (pc := 51) O (x := 0) dX5_merge_51 (by decide) ?_
    exact v_iret (pc := 52) O hr (Nat.le_refl _) (Nat.le_refl _) dX5_merge_52 ⟨_, rfl, ⟨by simp [mergeO, c_12], by simpa [mergeO, c_12] using hR⟩⟩
set_option maxHeartbeats 4000000 in
theorem mm_move (l : Launch) (Γ : Gm) (ad : Nat → Nat) (r x : Int32) {s : St} {μ0 : Mem} {B : Nat} (hW : WfM B s) (hR : RepM Γ ad s μ0) : MetV l Γ yX5_move cX5_move 6 (some .int) 3 0 0 [.ref (ad 0), .int r, .int x] μ0 (PI (fun r9 μ1 => r9 = (moveO s r x).2 ∧ RepM Γ ad ((moveO s r x).1) μ1)) := by
  refine MetV.of (by decide +kernel) rfl ?_
  intro X sz hl hr hnm O
  subst hl
  show V X Γ _ 6 _ 0 0 μ0 0 [(0, .ref (ad 0)), (1, .int r), (2, .int x)] []
  refine v_aload_n (pc := 0) O dX5_move_0 rfl ?_
  refine v_iload_n (pc := 1) O dX5_move_1 rfl ?_
  refine v_iconst (pc := 2) O (x := 0) dX5_move_2 (by decide) ?_
  refine v_aload_n (pc := 3) O dX5_move_3 rfl ?_
  refine vm_geti (pc := 4) O hR 4 rfl q2047 (x := (s 4 0)) rfl rfl dX5_move_4 ?_
  refine v_iconst (pc := 7) O (x := 1) dX5_move_7 (by decide) ?_
  refine v_isub (pc := 8) O dX5_move_8 ?_
  refine v_callSi0 (pc := 9) (nA := 3) O (mm_in (xL X) Γ r 0 ((s 4 0) - 1) _) q2149 q2150 q71 q2151 (by decide +kernel) rfl rfl rfl rfl (Nat.le_of_ble_eq_true rfl) (Nat.le_refl _) (Nat.le_refl _) dX5_move_9 (fun x μ1 h => ?_)
  obtain ⟨rfl, rfl⟩ := h
  refine v_if_eq_b (pc := 12) (tgt := 24) O dX5_move_12 (by decide) (fun c_12 => ?_) (fun c_12 => ?_)
  · refine v_iconst (pc := 24) O (x := 1) dX5_move_24 (by decide) ?_
    refine v_goto (pc := 25) O (tgt := 56) dX5_move_25 (by decide) ?_
    refine vm_put (pc := 56) O hR 31 (by decide) q2074 dX5_move_56 (fun μ hR => ?_)
    refine v_aload_n (pc := 59) O dX5_move_59 rfl ?_
    refine vm_geti (pc := 60) O hR 31 rfl q2074 (x := 1) rfl sset_eq dX5_move_60 ?_
    refine v_if_le (pc := 63) (tgt := 68) O dX5_move_63 (by decide) (fun c => absurd c (by decide)) (fun _ => ?_)
    refine v_iconst (pc := 66) O (x := 0) dX5_move_66 (by decide) ?_
    exact v_iret (pc := 67) O hr (Nat.le_refl _) (Nat.le_refl _) dX5_move_67 ⟨_, rfl, ⟨by simp [moveO, asks_oth, c_12], by simpa [moveO, asks_oth, c_12] using hR⟩⟩
  · have h_r := (hW.rix (Or.inl rfl) c_12).1
    refine v_iload_n (pc := 15) O dX5_move_15 rfl ?_
    refine v_iconst (pc := 16) O (x := 0) dX5_move_16 (by decide) ?_
    refine v_iconst (pc := 17) O (x := 3) dX5_move_17 (by decide) ?_
    refine v_callSi0 (pc := 18) (nA := 3) O (mm_in (xL X) Γ x 0 3 _) q2149 q2150 q71 q2151 (by decide +kernel) rfl rfl rfl rfl (Nat.le_of_ble_eq_true rfl) (Nat.le_refl _) (Nat.le_refl _) dX5_move_18 (fun x μ1 h => ?_)
    obtain ⟨rfl, rfl⟩ := h
    refine v_if_ne_b (pc := 21) (tgt := 28) O dX5_move_21 (by decide) (fun c_21 => ?_) (fun c_21 => ?_)
    · have h_x : ir x (nI 4) := ir_of (hi := 3) (by decide) (by decide) (by decide) c_21
      refine v_aload_n (pc := 28) O dX5_move_28 rfl ?_
      refine vm_get (pc := 29) O hR 3 rfl q2046 rfl dX5_move_29 ?_
      refine v_iload_n (pc := 32) O dX5_move_32 rfl ?_
      refine vm_zald (pc := 33) O hR 3 rfl rfl h_x (x := (s 3 x)) rfl dX5_move_33 ?_
      refine v_if_ne (pc := 34) (tgt := 51) O dX5_move_34 (by decide) (fun c_34 => ?_) (fun c_34 => ?_)
      · refine v_iconst (pc := 51) O (x := 2) dX5_move_51 (by decide) ?_
        refine v_goto (pc := 52) O (tgt := 56) dX5_move_52 (by decide) ?_
        refine vm_put (pc := 56) O hR 31 (by decide) q2074 dX5_move_56 (fun μ hR => ?_)
        refine v_aload_n (pc := 59) O dX5_move_59 rfl ?_
        refine vm_geti (pc := 60) O hR 31 rfl q2074 (x := 2) rfl sset_eq dX5_move_60 ?_
        refine v_if_le (pc := 63) (tgt := 68) O dX5_move_63 (by decide) (fun c => absurd c (by decide)) (fun _ => ?_)
        refine v_iconst (pc := 66) O (x := 0) dX5_move_66 (by decide) ?_
        exact v_iret (pc := 67) O hr (Nat.le_refl _) (Nat.le_refl _) dX5_move_67 ⟨_, rfl, ⟨by simp [moveO, asks_oth, c_12, c_21, c_34], by simpa [moveO, asks_oth, c_12, c_21, c_34] using hR⟩⟩
      · refine v_aload_n (pc := 37) O dX5_move_37 rfl ?_
        refine vm_get (pc := 38) O hR 3 rfl q2046 rfl dX5_move_38 ?_
        refine v_aload_n (pc := 41) O dX5_move_41 rfl ?_
        refine vm_get (pc := 42) O hR 6 rfl q2049 rfl dX5_move_42 ?_
        refine v_iload_n (pc := 45) O dX5_move_45 rfl ?_
        refine vm_iald (pc := 46) O hR 6 rfl rfl h_r (x := (s 6 r)) rfl dX5_move_46 ?_
        refine vm_zald (pc := 47) O hR 3 rfl rfl (hW.1 _) (x := (s 3 (s 6 r))) rfl dX5_move_47 ?_
        refine v_if_eq (pc := 48) (tgt := 55) O dX5_move_48 (by decide) (fun c_48 => ?_) (fun c_48 => ?_)
        · refine v_iconst (pc := 55) O (x := 0) dX5_move_55 (by decide) ?_
          refine vm_put (pc := 56) O hR 31 (by decide) q2074 dX5_move_56 (fun μ hR => ?_)
          refine v_aload_n (pc := 59) O dX5_move_59 rfl ?_
          refine vm_geti (pc := 60) O hR 31 rfl q2074 (x := 0) rfl sset_eq dX5_move_60 ?_
          refine v_if_le (pc := 63) (tgt := 68) O dX5_move_63 (by decide) (fun _ => ?_) (fun c => absurd (by decide) c)
          refine v_aload_n (pc := 68) O dX5_move_68 rfl ?_
          refine vm_get (pc := 69) O hR 6 rfl q2049 rfl dX5_move_69 ?_
          refine v_iload_n (pc := 72) O dX5_move_72 rfl ?_
          refine vm_iald (pc := 73) O hR 6 rfl rfl h_r (x := (s 6 r)) ((sset_f (by decide)).trans rfl) dX5_move_73 ?_
          refine v_istore_n (pc := 74) (lv' := [(3, .int (s 6 r)), (0, .ref (ad 0)), (1, .int r), (2, .int x)]) O dX5_move_74 rfl rfl ?_
          refine v_aload_n (pc := 75) O dX5_move_75 rfl ?_
          refine v_iload_n (pc := 76) O dX5_move_76 rfl ?_
          refine v_callVi0 (pc := 77) (nA := 1) O (mm_asks (xL X) Γ ad (s 6 r) (hW.1 _) hR) hR.1 rfl q2160 q2162 qs21 q71 q2163 (by decide +kernel) rfl rfl rfl rfl (Nat.le_of_ble_eq_true rfl) (Nat.le_refl _) (Nat.le_refl _) dX5_move_77 (fun x μ h => ?_)
          obtain ⟨hx, hR⟩ := h
          rw [asks_oth (by decide) (by decide) (by decide)] at hx
          subst hx
          refine v_istore (pc := 80) (lv' := [(4, .int (asksF s (s 6 r))), (3, .int (s 6 r)), (0, .ref (ad 0)), (1, .int r), (2, .int x)]) O dX5_move_80 rfl rfl ?_
          refine v_iconst (pc := 82) O (x := 0) dX5_move_82 (by decide) ?_
          refine v_istore (pc := 83) (lv' := [(5, .int 0), (4, .int (asksF s (s 6 r))), (3, .int (s 6 r)), (0, .ref (ad 0)), (1, .int r), (2, .int x)]) O dX5_move_83 rfl rfl ?_
          have L85 : ∀ (d85 j85 : Nat) (s85 : St) (μ : Mem), 32 < d85 + j85 → j85 ≤ 32 → s85 = iter (moveStep r (asksF s (s 6 r))) j85 (asksS (sset s 31 0 0) (s 6 r)) → WfM B s85 → RepM Γ ad s85 μ → V X Γ (gA μ0 sz) 6 (QV X Γ μ0 sz (PI (fun r9 μ1 => r9 = (moveO s r x).2 ∧ RepM Γ ad ((moveO s r x).1) μ1)) 0 0) 0 0 μ 85 [(5, .int (nI j85)), (4, .int (asksF s (s 6 r))), (3, .int (s 6 r)), (0, .ref (ad 0)), (1, .int r), (2, .int x)] [] := by
            intro d85
            induction d85 with
            | zero => intro j85 s85 μ h1 h2; exact absurd h1 (by omega)
            | succ d85 ih85 =>
              intro j85 s85 μ hd hj85 he85 hWs85 hR
              refine v_iload (pc := 85) O dX5_move_85 rfl ?_
              refine v_bipush (pc := 87) O (x := 32) dX5_move_87 (by decide) ?_
              refine v_icmp_ge (pc := 89) (tgt := 116) O dX5_move_89 (by decide) (fun c_89 => ?_) (fun c_89 => ?_)
              · have hx85 := lp_out rfl (by decide) hj85 c_89
                subst hx85
                refine v_aload_n (pc := 116) O dX5_move_116 rfl ?_
                refine vm_get (pc := 117) O hR 6 rfl q2049 rfl dX5_move_117 ?_
                refine v_iload_n (pc := 120) O dX5_move_120 rfl ?_
                refine v_iload_n (pc := 121) O dX5_move_121 rfl ?_
                refine vm_iast (pc := 122) O hR 6 rfl rfl h_r dX5_move_122 (fun μ hR => ?_)
                refine v_iload_n (pc := 123) O dX5_move_123 rfl ?_
                exact v_iret (pc := 124) O hr (Nat.le_refl _) (Nat.le_refl _) dX5_move_124 ⟨_, rfl, ⟨by simp [moveO, asks_oth, c_12, c_21, c_34, c_48, c_89, ← he85], by simpa [moveO, asks_oth, c_12, c_21, c_34, c_48, c_89, ← he85] using hR⟩⟩
              · have hj85lt := lp_in rfl (by decide) hj85 c_89
                refine v_aload_n (pc := 92) O dX5_move_92 rfl ?_
                refine v_iload (pc := 93) O dX5_move_93 rfl ?_
                refine v_callVi0 (pc := 95) (nA := 1) O (mm_rangeOf (xL X) Γ ad (nI j85) hWs85 hR) hR.1 rfl q2183 q2185 qs24 q71 q2186 (by decide +kernel) rfl rfl rfl rfl (Nat.le_of_ble_eq_true rfl) (Nat.le_refl _) (Nat.le_refl _) dX5_move_95 (fun x μ h => ?_)
                obtain ⟨rfl, hR⟩ := h
                refine v_iload_n (pc := 98) O dX5_move_98 rfl ?_
                refine v_icmp_ne (pc := 99) (tgt := 110) O dX5_move_99 (by decide) (fun c_99 => ?_) (fun c_99 => ?_)
                · refine v_iinc (pc := 110) (y := (nI (j85 + 1))) (lv' := [(5, .int (nI (j85 + 1))), (4, .int (asksF s (s 6 r))), (3, .int (s 6 r)), (0, .ref (ad 0)), (1, .int r), (2, .int x)]) O dX5_move_110 rfl (nI_inc _) rfl rfl ?_
                  refine v_goto (pc := 113) O (tgt := 85) dX5_move_113 (by decide) ?_
                  exact v_locs [0, 1, 2, 3, 4, 5] rfl (ih85 (j85 + 1) s85 _ (by omega) (by omega) (by rw [iter_s, ← he85]; simp [moveStep, asks_oth, c_89, c_99]) hWs85 hR)
                · refine v_aload_n (pc := 102) O dX5_move_102 rfl ?_
                  refine v_iload (pc := 103) O dX5_move_103 rfl ?_
                  refine v_iload (pc := 105) O dX5_move_105 rfl ?_
                  refine v_callVv0 (pc := 107) (nA := 2) O (mm_covers (xL X) Γ ad (nI j85) (asksF s (s 6 r)) (ir_nI hj85lt (by decide)) hR) hR.1 rfl q2191 q2193 qs25 q71 q2194 (by decide +kernel) rfl rfl rfl rfl (Nat.le_of_ble_eq_true rfl) (Nat.le_refl _) (Nat.le_refl _) dX5_move_107 (fun μ hR => ?_)
                  refine v_iinc (pc := 110) (y := (nI (j85 + 1))) (lv' := [(5, .int (nI (j85 + 1))), (4, .int (asksF s (s 6 r))), (3, .int (s 6 r)), (0, .ref (ad 0)), (1, .int r), (2, .int x)]) O dX5_move_110 rfl (nI_inc _) rfl rfl ?_
                  refine v_goto (pc := 113) O (tgt := 85) dX5_move_113 (by decide) ?_
                  exact v_locs [0, 1, 2, 3, 4, 5] rfl (ih85 (j85 + 1) (coversS s85 (nI j85) (asksF s (s 6 r))) _ (by omega) (by omega) (by rw [iter_s, ← he85]; simp [moveStep, asks_oth, c_89, c_99]) (WfM.covers hWs85) hR)
          exact v_locs [0, 1, 2, 3, 4, 5] rfl (L85 (32 + 1) 0 (asksS (sset s 31 0 0) (s 6 r)) _ (by omega) (by omega) iter_0.symm (WfM.asks (WfM.oth hW (by decide))) hR)
        · refine v_iconst (pc := 51) O (x := 2) dX5_move_51 (by decide) ?_
          refine v_goto (pc := 52) O (tgt := 56) dX5_move_52 (by decide) ?_
          refine vm_put (pc := 56) O hR 31 (by decide) q2074 dX5_move_56 (fun μ hR => ?_)
          refine v_aload_n (pc := 59) O dX5_move_59 rfl ?_
          refine vm_geti (pc := 60) O hR 31 rfl q2074 (x := 2) rfl sset_eq dX5_move_60 ?_
          refine v_if_le (pc := 63) (tgt := 68) O dX5_move_63 (by decide) (fun c => absurd c (by decide)) (fun _ => ?_)
          refine v_iconst (pc := 66) O (x := 0) dX5_move_66 (by decide) ?_
          exact v_iret (pc := 67) O hr (Nat.le_refl _) (Nat.le_refl _) dX5_move_67 ⟨_, rfl, ⟨by simp [moveO, asks_oth, c_12, c_21, c_34, c_48], by simpa [moveO, asks_oth, c_12, c_21, c_34, c_48] using hR⟩⟩
    · refine v_iconst (pc := 24) O (x := 1) dX5_move_24 (by decide) ?_
      refine v_goto (pc := 25) O (tgt := 56) dX5_move_25 (by decide) ?_
      refine vm_put (pc := 56) O hR 31 (by decide) q2074 dX5_move_56 (fun μ hR => ?_)
      refine v_aload_n (pc := 59) O dX5_move_59 rfl ?_
      refine vm_geti (pc := 60) O hR 31 rfl q2074 (x := 1) rfl sset_eq dX5_move_60 ?_
      refine v_if_le (pc := 63) (tgt := 68) O dX5_move_63 (by decide) (fun c => absurd c (by decide)) (fun _ => ?_)
      refine v_iconst (pc := 66) O (x := 0) dX5_move_66 (by decide) ?_
      exact v_iret (pc := 67) O hr (Nat.le_refl _) (Nat.le_refl _) dX5_move_67 ⟨_, rfl, ⟨by simp [moveO, asks_oth, c_12, c_21], by simpa [moveO, asks_oth, c_12, c_21] using hR⟩⟩
set_option maxHeartbeats 4000000 in
theorem mm_begin (l : Launch) (Γ : Gm) (ad : Nat → Nat) (x rk : Int32) {s : St} {μ0 : Mem} {B : Nat} (hW : WfM B s) (hR : RepM Γ ad s μ0) : MetV l Γ yX5_begin cX5_begin 5 (some .int) 3 0 0 [.ref (ad 0), .int x, .int rk] μ0 (PI (fun r9 μ1 => r9 = (beginO s x rk).2 ∧ RepM Γ ad ((beginO s x rk).1) μ1)) := by
  refine MetV.of (by decide +kernel) rfl ?_
  intro X sz hl hr hnm O
  subst hl
  show V X Γ _ 5 _ 0 0 μ0 0 [(0, .ref (ad 0)), (1, .int x), (2, .int rk)] []
  refine v_aload_n (pc := 0) O dX5_begin_0 rfl ?_
  refine v_iload_n (pc := 1) O dX5_begin_1 rfl ?_
  refine v_iconst (pc := 2) O (x := 0) dX5_begin_2 (by decide) ?_
  refine v_iconst (pc := 3) O (x := 3) dX5_begin_3 (by decide) ?_
  refine v_callSi0 (pc := 4) (nA := 3) O (mm_in (xL X) Γ x 0 3 _) q2149 q2150 q71 q2151 (by decide +kernel) rfl rfl rfl rfl (Nat.le_of_ble_eq_true rfl) (Nat.le_refl _) (Nat.le_refl _) dX5_begin_4 (fun x μ1 h => ?_)
  obtain ⟨rfl, rfl⟩ := h
  refine v_if_ne_b (pc := 7) (tgt := 14) O dX5_begin_7 (by decide) (fun c_7 => ?_) (fun c_7 => ?_)
  · have h_x : ir x (nI 4) := ir_of (hi := 3) (by decide) (by decide) (by decide) c_7
    refine v_iload_n (pc := 14) O dX5_begin_14 rfl ?_
    refine v_iconst (pc := 15) O (x := 0) dX5_begin_15 (by decide) ?_
    refine v_bipush (pc := 16) O (x := 9) dX5_begin_16 (by decide) ?_
    refine v_callSi0 (pc := 18) (nA := 3) O (mm_in (xL X) Γ rk 0 9 _) q2149 q2150 q71 q2151 (by decide +kernel) rfl rfl rfl rfl (Nat.le_of_ble_eq_true rfl) (Nat.le_refl _) (Nat.le_refl _) dX5_begin_18 (fun x μ1 h => ?_)
    obtain ⟨rfl, rfl⟩ := h
    refine v_if_ne_b (pc := 21) (tgt := 28) O dX5_begin_21 (by decide) (fun c_21 => ?_) (fun c_21 => ?_)
    · refine v_aload_n (pc := 28) O dX5_begin_28 rfl ?_
      refine vm_get (pc := 29) O hR 3 rfl q2046 rfl dX5_begin_29 ?_
      refine v_iload_n (pc := 32) O dX5_begin_32 rfl ?_
      refine vm_zald (pc := 33) O hR 3 rfl rfl h_x (x := (s 3 x)) rfl dX5_begin_33 ?_
      refine v_if_ne (pc := 34) (tgt := 46) O dX5_begin_34 (by decide) (fun c_34 => ?_) (fun c_34 => ?_)
      · refine v_iconst (pc := 46) O (x := 3) dX5_begin_46 (by decide) ?_
        refine v_goto (pc := 47) O (tgt := 51) dX5_begin_47 (by decide) ?_
        refine vm_put (pc := 51) O hR 31 (by decide) q2074 dX5_begin_51 (fun μ hR => ?_)
        refine v_aload_n (pc := 54) O dX5_begin_54 rfl ?_
        refine vm_geti (pc := 55) O hR 31 rfl q2074 (x := 3) rfl sset_eq dX5_begin_55 ?_
        refine v_if_le (pc := 58) (tgt := 63) O dX5_begin_58 (by decide) (fun c => absurd c (by decide)) (fun _ => ?_)
        refine v_iconst (pc := 61) O (x := 0) dX5_begin_61 (by decide) ?_
        exact v_iret (pc := 62) O hr (Nat.le_refl _) (Nat.le_refl _) dX5_begin_62 ⟨_, rfl, ⟨by simp [beginO, beginS, asks_oth, asksS_f, sset_f, sset_eq, c_7, c_21, c_34], by simpa [beginO, beginS, asks_oth, asksS_f, sset_f, sset_eq, c_7, c_21, c_34] using hR⟩⟩
      · refine v_aload_n (pc := 37) O dX5_begin_37 rfl ?_
        refine vm_geti (pc := 38) O hR 16 rfl q2059 (x := (s 16 0)) rfl rfl dX5_begin_38 ?_
        refine v_bipush (pc := 41) O (x := 40) dX5_begin_41 (by decide) ?_
        refine v_icmp_ne (pc := 43) (tgt := 50) O dX5_begin_43 (by decide) (fun c_43 => ?_) (fun c_43 => ?_)
        · have hT := hW.many c_43
          refine v_iconst (pc := 50) O (x := 0) dX5_begin_50 (by decide) ?_
          refine vm_put (pc := 51) O hR 31 (by decide) q2074 dX5_begin_51 (fun μ hR => ?_)
          refine v_aload_n (pc := 54) O dX5_begin_54 rfl ?_
          refine vm_geti (pc := 55) O hR 31 rfl q2074 (x := 0) rfl sset_eq dX5_begin_55 ?_
          refine v_if_le (pc := 58) (tgt := 63) O dX5_begin_58 (by decide) (fun _ => ?_) (fun c => absurd (by decide) c)
          refine v_aload_n (pc := 63) O dX5_begin_63 rfl ?_
          refine vm_geti (pc := 64) O hR 16 rfl q2059 (x := (s 16 0)) rfl ((sset_f (by decide)).trans rfl) dX5_begin_64 ?_
          refine v_istore_n (pc := 67) (lv' := [(3, .int (s 16 0)), (0, .ref (ad 0)), (1, .int x), (2, .int rk)]) O dX5_begin_67 rfl rfl ?_
          refine v_aload_n (pc := 68) O dX5_begin_68 rfl ?_
          refine v_dup (pc := 69) O dX5_begin_69 rfl ?_
          refine vm_geti (pc := 70) O hR 16 rfl q2059 (x := (s 16 0)) rfl ((sset_f (by decide)).trans rfl) dX5_begin_70 ?_
          refine v_iconst (pc := 73) O (x := 1) dX5_begin_73 (by decide) ?_
          refine v_iadd (pc := 74) O dX5_begin_74 ?_
          refine vm_put (pc := 75) O hR 16 (by decide) q2059 dX5_begin_75 (fun μ hR => ?_)
          refine v_aload_n (pc := 78) O dX5_begin_78 rfl ?_
          refine vm_get (pc := 79) O hR 17 rfl q2060 rfl dX5_begin_79 ?_
          refine v_iload_n (pc := 82) O dX5_begin_82 rfl ?_
          refine v_iload_n (pc := 83) O dX5_begin_83 rfl ?_
          refine vm_iast (pc := 84) O hR 17 rfl rfl hT dX5_begin_84 (fun μ hR => ?_)
          refine v_aload_n (pc := 85) O dX5_begin_85 rfl ?_
          refine vm_get (pc := 86) O hR 18 rfl q2061 rfl dX5_begin_86 ?_
          refine v_iload_n (pc := 89) O dX5_begin_89 rfl ?_
          refine v_iload_n (pc := 90) O dX5_begin_90 rfl ?_
          refine vm_iast (pc := 91) O hR 18 rfl rfl hT dX5_begin_91 (fun μ hR => ?_)
          refine v_aload_n (pc := 92) O dX5_begin_92 rfl ?_
          refine vm_get (pc := 93) O hR 19 rfl q2062 rfl dX5_begin_93 ?_
          refine v_iload_n (pc := 96) O dX5_begin_96 rfl ?_
          refine v_aload_n (pc := 97) O dX5_begin_97 rfl ?_
          refine v_iload_n (pc := 98) O dX5_begin_98 rfl ?_
          refine v_callVi0 (pc := 99) (nA := 1) O (mm_asks (xL X) Γ ad x h_x hR) hR.1 rfl q2160 q2162 qs21 q71 q2163 (by decide +kernel) rfl rfl rfl rfl (Nat.le_of_ble_eq_true rfl) (Nat.le_refl _) (Nat.le_refl _) dX5_begin_99 (fun x μ h => ?_)
          obtain ⟨hx, hR⟩ := h
          rw [asks_oth (by decide) (by decide) (by decide), asks_oth (by decide) (by decide) (by decide), asks_oth (by decide) (by decide) (by decide), asks_oth (by decide) (by decide) (by decide)] at hx
          subst hx
          refine vm_iast (pc := 102) O hR 19 rfl rfl hT dX5_begin_102 (fun μ hR => ?_)
          refine v_aload_n (pc := 103) O dX5_begin_103 rfl ?_
          refine vm_get (pc := 104) O hR 20 rfl q2063 rfl dX5_begin_104 ?_
          refine v_iload_n (pc := 107) O dX5_begin_107 rfl ?_
          refine v_aload_n (pc := 108) O dX5_begin_108 rfl ?_
          refine vm_get (pc := 109) O hR 19 rfl q2062 rfl dX5_begin_109 ?_
          refine v_iload_n (pc := 112) O dX5_begin_112 rfl ?_
          refine vm_iald (pc := 113) O hR 19 rfl rfl hT (x := (asksF s x)) sset_eq dX5_begin_113 ?_
          refine vm_iast (pc := 114) O hR 20 rfl rfl hT dX5_begin_114 (fun μ hR => ?_)
          refine v_aload_n (pc := 115) O dX5_begin_115 rfl ?_
          refine vm_get (pc := 116) O hR 21 rfl q2064 rfl dX5_begin_116 ?_
          refine v_iload_n (pc := 119) O dX5_begin_119 rfl ?_
          refine v_aload_n (pc := 120) O dX5_begin_120 rfl ?_
          refine vm_get (pc := 121) O hR 19 rfl q2062 rfl dX5_begin_121 ?_
          refine v_iload_n (pc := 124) O dX5_begin_124 rfl ?_
          refine vm_iald (pc := 125) O hR 19 rfl rfl hT (x := (asksF s x)) ((sset_f (by decide)).trans sset_eq) dX5_begin_125 ?_
          refine v_bipush (pc := 126) O (x := 100) dX5_begin_126 (by decide) ?_
          refine v_iadd (pc := 128) O dX5_begin_128 ?_
          refine vm_iast (pc := 129) O hR 21 rfl rfl hT dX5_begin_129 (fun μ hR => ?_)
          refine v_aload_n (pc := 130) O dX5_begin_130 rfl ?_
          refine vm_get (pc := 131) O hR 22 rfl q2065 rfl dX5_begin_131 ?_
          refine v_iload_n (pc := 134) O dX5_begin_134 rfl ?_
          refine v_aload_n (pc := 135) O dX5_begin_135 rfl ?_
          refine vm_geti (pc := 136) O hR 0 rfl q2043 (x := (s 0 0)) rfl ((sset_f (by decide)).trans ((sset_f (by decide)).trans ((sset_f (by decide)).trans ((congrFun (asksS_g (by decide)) _).trans ((sset_f (by decide)).trans ((sset_f (by decide)).trans ((sset_f (by decide)).trans ((sset_f (by decide)).trans rfl)))))))) dX5_begin_136 ?_
          refine vm_iast (pc := 139) O hR 22 rfl rfl hT dX5_begin_139 (fun μ hR => ?_)
          refine v_aload_n (pc := 140) O dX5_begin_140 rfl ?_
          refine vm_get (pc := 141) O hR 23 rfl q2066 rfl dX5_begin_141 ?_
          refine v_iload_n (pc := 144) O dX5_begin_144 rfl ?_
          refine v_iconst (pc := 145) O (x := 0) dX5_begin_145 (by decide) ?_
          refine vm_iast (pc := 146) O hR 23 rfl rfl hT dX5_begin_146 (fun μ hR => ?_)
          refine v_aload_n (pc := 147) O dX5_begin_147 rfl ?_
          refine vm_get (pc := 148) O hR 24 rfl q2067 rfl dX5_begin_148 ?_
          refine v_iload_n (pc := 151) O dX5_begin_151 rfl ?_
          refine v_iconst (pc := 152) O (x := -1) dX5_begin_152 (by decide) ?_
          refine vm_iast (pc := 153) O hR 24 rfl rfl hT dX5_begin_153 (fun μ hR => ?_)
          refine v_iconst (pc := 154) O (x := 0) dX5_begin_154 (by decide) ?_
          refine v_istore (pc := 155) (lv' := [(4, .int 0), (3, .int (s 16 0)), (0, .ref (ad 0)), (1, .int x), (2, .int rk)]) O dX5_begin_155 rfl rfl ?_
          have L157 : ∀ (d157 j157 : Nat) (s157 : St) (μ : Mem), 4 < d157 + j157 → j157 ≤ 4 → s157 = iter (datStep (s 16 0)) j157 (sset (sset (sset (sset (sset (sset (asksS (sset (sset (sset (sset s 31 0 0) 16 0 ((s 16 0) + 1)) 17 (s 16 0) x) 18 (s 16 0) rk) x) 19 (s 16 0) (asksF s x)) 20 (s 16 0) (asksF s x)) 21 (s 16 0) ((asksF s x) + 100)) 22 (s 16 0) (s 0 0)) 23 (s 16 0) 0) 24 (s 16 0) (-1)) → RepM Γ ad s157 μ → V X Γ (gA μ0 sz) 5 (QV X Γ μ0 sz (PI (fun r9 μ1 => r9 = (beginO s x rk).2 ∧ RepM Γ ad ((beginO s x rk).1) μ1)) 0 0) 0 0 μ 157 [(4, .int (nI j157)), (3, .int (s 16 0)), (0, .ref (ad 0)), (1, .int x), (2, .int rk)] [] := by
            intro d157
            induction d157 with
            | zero => intro j157 s157 μ h1 h2; exact absurd h1 (by omega)
            | succ d157 ih157 =>
              intro j157 s157 μ hd hj157 he157  hR
              refine v_iload (pc := 157) O dX5_begin_157 rfl ?_
              refine v_iconst (pc := 159) O (x := 4) dX5_begin_159 (by decide) ?_
              refine v_icmp_ge (pc := 160) (tgt := 181) O dX5_begin_160 (by decide) (fun c_160 => ?_) (fun c_160 => ?_)
              · have hx157 := lp_out rfl (by decide) hj157 c_160
                subst hx157
                refine v_aload_n (pc := 181) O dX5_begin_181 rfl ?_
                refine v_iload_n (pc := 182) O dX5_begin_182 rfl ?_
                refine v_callVv0 (pc := 183) (nA := 1) O (mm_forgets (xL X) Γ ad (s 16 0) hT hR) hR.1 rfl q2215 q2217 qs26 q71 q2218 (by decide +kernel) rfl rfl rfl rfl (Nat.le_of_ble_eq_true rfl) (Nat.le_refl _) (Nat.le_refl _) dX5_begin_183 (fun μ hR => ?_)
                refine v_iload_n (pc := 186) O dX5_begin_186 rfl ?_
                exact v_iret (pc := 187) O hr (Nat.le_refl _) (Nat.le_refl _) dX5_begin_187 ⟨_, rfl, ⟨by simp [beginO, beginS, asks_oth, asksS_f, sset_f, sset_eq, c_7, c_21, c_34, c_43, c_160, ← he157], by simpa [beginO, beginS, asks_oth, asksS_f, sset_f, sset_eq, c_7, c_21, c_34, c_43, c_160, ← he157] using hR⟩⟩
              · have hj157lt := lp_in rfl (by decide) hj157 c_160
                refine v_aload_n (pc := 163) O dX5_begin_163 rfl ?_
                refine vm_get (pc := 164) O hR 27 rfl q2070 rfl dX5_begin_164 ?_
                refine v_iconst (pc := 167) O (x := 4) dX5_begin_167 (by decide) ?_
                refine v_iload_n (pc := 168) O dX5_begin_168 rfl ?_
                refine v_imul (pc := 169) O dX5_begin_169 ?_
                refine v_iload (pc := 170) O dX5_begin_170 rfl ?_
                refine v_iadd (pc := 172) O dX5_begin_172 ?_
                refine v_iconst (pc := 173) O (x := -1) dX5_begin_173 (by decide) ?_
                refine vm_iast (pc := 174) O hR 27 rfl rfl (ir_4 hT (ir_nI hj157lt (by decide))) dX5_begin_174 (fun μ hR => ?_)
                refine v_iinc (pc := 175) (y := (nI (j157 + 1))) (lv' := [(4, .int (nI (j157 + 1))), (3, .int (s 16 0)), (0, .ref (ad 0)), (1, .int x), (2, .int rk)]) O dX5_begin_175 rfl (nI_inc _) rfl rfl ?_
                refine v_goto (pc := 178) O (tgt := 157) dX5_begin_178 (by decide) ?_
                exact v_locs [0, 1, 2, 3, 4] rfl (ih157 (j157 + 1) (sset s157 27 ((4 * (s 16 0)) + (nI j157)) (-1)) _ (by omega) (by omega) (by rw [iter_s, ← he157]; simp [datStep, c_160])  hR)
          exact v_locs [0, 1, 2, 3, 4] rfl (L157 (4 + 1) 0 (sset (sset (sset (sset (sset (sset (asksS (sset (sset (sset (sset s 31 0 0) 16 0 ((s 16 0) + 1)) 17 (s 16 0) x) 18 (s 16 0) rk) x) 19 (s 16 0) (asksF s x)) 20 (s 16 0) (asksF s x)) 21 (s 16 0) ((asksF s x) + 100)) 22 (s 16 0) (s 0 0)) 23 (s 16 0) 0) 24 (s 16 0) (-1)) _ (by omega) (by omega) iter_0.symm  hR)
        · refine v_iconst (pc := 46) O (x := 3) dX5_begin_46 (by decide) ?_
          refine v_goto (pc := 47) O (tgt := 51) dX5_begin_47 (by decide) ?_
          refine vm_put (pc := 51) O hR 31 (by decide) q2074 dX5_begin_51 (fun μ hR => ?_)
          refine v_aload_n (pc := 54) O dX5_begin_54 rfl ?_
          refine vm_geti (pc := 55) O hR 31 rfl q2074 (x := 3) rfl sset_eq dX5_begin_55 ?_
          refine v_if_le (pc := 58) (tgt := 63) O dX5_begin_58 (by decide) (fun c => absurd c (by decide)) (fun _ => ?_)
          refine v_iconst (pc := 61) O (x := 0) dX5_begin_61 (by decide) ?_
          exact v_iret (pc := 62) O hr (Nat.le_refl _) (Nat.le_refl _) dX5_begin_62 ⟨_, rfl, ⟨by simp [beginO, beginS, asks_oth, asksS_f, sset_f, sset_eq, c_7, c_21, c_34, c_43], by simpa [beginO, beginS, asks_oth, asksS_f, sset_f, sset_eq, c_7, c_21, c_34, c_43] using hR⟩⟩
    · refine v_iconst (pc := 24) O (x := 2) dX5_begin_24 (by decide) ?_
      refine v_goto (pc := 25) O (tgt := 51) dX5_begin_25 (by decide) ?_
      refine vm_put (pc := 51) O hR 31 (by decide) q2074 dX5_begin_51 (fun μ hR => ?_)
      refine v_aload_n (pc := 54) O dX5_begin_54 rfl ?_
      refine vm_geti (pc := 55) O hR 31 rfl q2074 (x := 2) rfl sset_eq dX5_begin_55 ?_
      refine v_if_le (pc := 58) (tgt := 63) O dX5_begin_58 (by decide) (fun c => absurd c (by decide)) (fun _ => ?_)
      refine v_iconst (pc := 61) O (x := 0) dX5_begin_61 (by decide) ?_
      exact v_iret (pc := 62) O hr (Nat.le_refl _) (Nat.le_refl _) dX5_begin_62 ⟨_, rfl, ⟨by simp [beginO, beginS, asks_oth, asksS_f, sset_f, sset_eq, c_7, c_21], by simpa [beginO, beginS, asks_oth, asksS_f, sset_f, sset_eq, c_7, c_21] using hR⟩⟩
  · refine v_iconst (pc := 10) O (x := 1) dX5_begin_10 (by decide) ?_
    refine v_goto (pc := 11) O (tgt := 51) dX5_begin_11 (by decide) ?_
    refine vm_put (pc := 51) O hR 31 (by decide) q2074 dX5_begin_51 (fun μ hR => ?_)
    refine v_aload_n (pc := 54) O dX5_begin_54 rfl ?_
    refine vm_geti (pc := 55) O hR 31 rfl q2074 (x := 1) rfl sset_eq dX5_begin_55 ?_
    refine v_if_le (pc := 58) (tgt := 63) O dX5_begin_58 (by decide) (fun c => absurd c (by decide)) (fun _ => ?_)
    refine v_iconst (pc := 61) O (x := 0) dX5_begin_61 (by decide) ?_
    exact v_iret (pc := 62) O hr (Nat.le_refl _) (Nat.le_refl _) dX5_begin_62 ⟨_, rfl, ⟨by simp [beginO, beginS, asks_oth, asksS_f, sset_f, sset_eq, c_7], by simpa [beginO, beginS, asks_oth, asksS_f, sset_f, sset_eq, c_7] using hR⟩⟩
theorem refStep_stop (t to : Int32) {σ : St} (k : Nat) : refStep t to k (σ, false) = (σ, false) := by simp [refStep]
set_option maxHeartbeats 4000000 in
theorem mm_refreshes (l : Launch) (Γ : Gm) (ad : Nat → Nat) (t to : Int32) {s : St} {μ0 : Mem} {B : Nat} (hB : B ≤ 1000) (h_t : ir t (nI 40)) (hW : WfM B s) (hR : RepM Γ ad s μ0) : MetV l Γ yX5_refreshes cX5_refreshes 5 (some .boolean) 4 0 0 [.ref (ad 0), .int t, .int to] μ0 (PI (fun r9 μ1 => r9 = (b2i (refB s t to)) ∧ RepM Γ ad (refS s t to) μ1)) := by
  refine MetV.of (by decide +kernel) rfl ?_
  intro X sz hl hr hnm O
  subst hl
  show V X Γ _ 5 _ 0 0 μ0 0 [(0, .ref (ad 0)), (1, .int t), (2, .int to)] []
  refine v_iconst (pc := 0) O (x := 0) dX5_refreshes_0 (by decide) ?_
  refine v_istore_n (pc := 1) (lv' := [(3, .int 0), (0, .ref (ad 0)), (1, .int t), (2, .int to)]) O dX5_refreshes_1 rfl rfl ?_
  have L2 : ∀ (d2 j2 : Nat) (s2 : St) (μ : Mem), 32 < d2 + j2 → j2 ≤ 32 → (s2, true) = iter (refStep t to) j2 (s, true) → WfM B s2 → RepM Γ ad s2 μ → V X Γ (gA μ0 sz) 5 (QV X Γ μ0 sz (PI (fun r9 μ1 => r9 = (b2i (refB s t to)) ∧ RepM Γ ad (refS s t to) μ1)) 0 0) 0 0 μ 2 [(3, .int (nI j2)), (0, .ref (ad 0)), (1, .int t), (2, .int to)] [] := by
    intro d2
    induction d2 with
    | zero => intro j2 s2 μ h1 h2; exact absurd h1 (by omega)
    | succ d2 ih2 =>
      intro j2 s2 μ hd hj2 he2 hWs2 hR
      refine v_iload_n (pc := 2) O dX5_refreshes_2 rfl ?_
      refine v_bipush (pc := 3) O (x := 32) dX5_refreshes_3 (by decide) ?_
      refine v_icmp_ge (pc := 5) (tgt := 86) O dX5_refreshes_5 (by decide) (fun c_5 => ?_) (fun c_5 => ?_)
      · have hx2 := lp_out rfl (by decide) hj2 c_5
        subst hx2
        refine v_iconst (pc := 86) O (x := 0) dX5_refreshes_86 (by decide) ?_
        refine v_istore_n (pc := 87) (lv' := [(3, .int 0), (0, .ref (ad 0)), (1, .int t), (2, .int to)]) O dX5_refreshes_87 rfl rfl ?_
        have L88 : ∀ (d88 j88 : Nat) (s88 : St) (μ : Mem), 32 < d88 + j88 → j88 ≤ 32 → s88 = iter (refMark t to) j88 s2 → WfM B s88 → RepM Γ ad s88 μ → V X Γ (gA μ0 sz) 5 (QV X Γ μ0 sz (PI (fun r9 μ1 => r9 = (b2i (refB s t to)) ∧ RepM Γ ad (refS s t to) μ1)) 0 0) 0 0 μ 88 [(3, .int (nI j88)), (0, .ref (ad 0)), (1, .int t), (2, .int to)] [] := by
          intro d88
          induction d88 with
          | zero => intro j88 s88 μ h1 h2; exact absurd h1 (by omega)
          | succ d88 ih88 =>
            intro j88 s88 μ hd hj88 he88 hWs88 hR
            refine v_iload_n (pc := 88) O dX5_refreshes_88 rfl ?_
            refine v_bipush (pc := 89) O (x := 32) dX5_refreshes_89 (by decide) ?_
            refine v_icmp_ge (pc := 91) (tgt := 122) O dX5_refreshes_91 (by decide) (fun c_91 => ?_) (fun c_91 => ?_)
            · have hx88 := lp_out rfl (by decide) hj88 c_91
              subst hx88
              refine v_iconst (pc := 122) O (x := 1) dX5_refreshes_122 (by decide) ?_
              exact v_zret (pc := 123) O hr (Nat.le_refl _) (Nat.le_refl _) dX5_refreshes_123 rfl ⟨_, rfl, ⟨by simp [refB, ← he2, b2i], by simpa [refS, refB, ← he2, ← he88] using hR⟩⟩
            · have hj88lt := lp_in rfl (by decide) hj88 c_91
              refine v_aload_n (pc := 94) O dX5_refreshes_94 rfl ?_
              refine vm_get (pc := 95) O hR 28 rfl q2071 rfl dX5_refreshes_95 ?_
              refine v_bipush (pc := 98) O (x := 32) dX5_refreshes_98 (by decide) ?_
              refine v_iload_n (pc := 100) O dX5_refreshes_100 rfl ?_
              refine v_imul (pc := 101) O dX5_refreshes_101 ?_
              refine v_iload_n (pc := 102) O dX5_refreshes_102 rfl ?_
              refine v_iadd (pc := 103) O dX5_refreshes_103 ?_
              refine vm_iald (pc := 104) O hR 28 rfl rfl (ir_32 h_t hj88lt) (x := (s88 28 ((32 * t) + (nI j88)))) rfl dX5_refreshes_104 ?_
              refine v_iconst (pc := 105) O (x := -1) dX5_refreshes_105 (by decide) ?_
              refine v_icmp_eq (pc := 106) (tgt := 116) O dX5_refreshes_106 (by decide) (fun c_106 => ?_) (fun c_106 => ?_)
              · refine v_iinc (pc := 116) (y := (nI (j88 + 1))) (lv' := [(3, .int (nI (j88 + 1))), (0, .ref (ad 0)), (1, .int t), (2, .int to)]) O dX5_refreshes_116 rfl (nI_inc _) rfl rfl ?_
                refine v_goto (pc := 119) O (tgt := 88) dX5_refreshes_119 (by decide) ?_
                exact v_locs [0, 1, 2, 3] rfl (ih88 (j88 + 1) s88 _ (by omega) (by omega) (by rw [iter_s, ← he88]; simp [refMark, c_91, c_106]) hWs88 hR)
              · refine v_aload_n (pc := 109) O dX5_refreshes_109 rfl ?_
                refine v_iload_n (pc := 110) O dX5_refreshes_110 rfl ?_
                refine v_iload_n (pc := 111) O dX5_refreshes_111 rfl ?_
                refine v_iload_n (pc := 112) O dX5_refreshes_112 rfl ?_
                refine v_callVv0 (pc := 113) (nA := 3) O (mm_marks (xL X) Γ ad t (nI j88) to (ir_nI hj88lt (by decide)) hR) hR.1 rfl q2271 q2273 qs39 q71 q2274 (by decide +kernel) rfl rfl rfl rfl (Nat.le_of_ble_eq_true rfl) (Nat.le_refl _) (Nat.le_refl _) dX5_refreshes_113 (fun μ hR => ?_)
                refine v_iinc (pc := 116) (y := (nI (j88 + 1))) (lv' := [(3, .int (nI (j88 + 1))), (0, .ref (ad 0)), (1, .int t), (2, .int to)]) O dX5_refreshes_116 rfl (nI_inc _) rfl rfl ?_
                refine v_goto (pc := 119) O (tgt := 88) dX5_refreshes_119 (by decide) ?_
                exact v_locs [0, 1, 2, 3] rfl (ih88 (j88 + 1) (marksS s88 t (nI j88) to) _ (by omega) (by omega) (by rw [iter_s, ← he88]; simp [refMark, c_91, c_106]) (WfM.marks hWs88) hR)
        exact v_locs [0, 1, 2, 3] rfl (L88 (32 + 1) 0 s2 _ (by omega) (by omega) iter_0.symm hWs2 hR)
      · have hj2lt := lp_in rfl (by decide) hj2 c_5
        refine v_aload_n (pc := 8) O dX5_refreshes_8 rfl ?_
        refine vm_get (pc := 9) O hR 28 rfl q2071 rfl dX5_refreshes_9 ?_
        refine v_bipush (pc := 12) O (x := 32) dX5_refreshes_12 (by decide) ?_
        refine v_iload_n (pc := 14) O dX5_refreshes_14 rfl ?_
        refine v_imul (pc := 15) O dX5_refreshes_15 ?_
        refine v_iload_n (pc := 16) O dX5_refreshes_16 rfl ?_
        refine v_iadd (pc := 17) O dX5_refreshes_17 ?_
        refine vm_iald (pc := 18) O hR 28 rfl rfl (ir_32 h_t hj2lt) (x := (s2 28 ((32 * t) + (nI j2)))) rfl dX5_refreshes_18 ?_
        refine v_iconst (pc := 19) O (x := -1) dX5_refreshes_19 (by decide) ?_
        refine v_icmp_eq (pc := 20) (tgt := 80) O dX5_refreshes_20 (by decide) (fun c_20 => ?_) (fun c_20 => ?_)
        · refine v_iinc (pc := 80) (y := (nI (j2 + 1))) (lv' := [(3, .int (nI (j2 + 1))), (0, .ref (ad 0)), (1, .int t), (2, .int to)]) O dX5_refreshes_80 rfl (nI_inc _) rfl rfl ?_
          refine v_goto (pc := 83) O (tgt := 2) dX5_refreshes_83 (by decide) ?_
          exact v_locs [0, 1, 2, 3] rfl (ih2 (j2 + 1) s2 _ (by omega) (by omega) (by rw [iter_s, ← he2]; simp [refStep, m19, m20, c_5, c_20]) hWs2 hR)
        · refine v_aload_n (pc := 23) O dX5_refreshes_23 rfl ?_
          refine vm_get (pc := 24) O hR 3 rfl q2046 rfl dX5_refreshes_24 ?_
          refine v_aload_n (pc := 27) O dX5_refreshes_27 rfl ?_
          refine v_iload_n (pc := 28) O dX5_refreshes_28 rfl ?_
          refine v_callVi0 (pc := 29) (nA := 1) O (mm_nodeOf (xL X) Γ ad (nI j2) hWs2 hR) hR.1 rfl q2179 q2181 qs23 q71 q2182 (by decide +kernel) rfl rfl rfl rfl (Nat.le_of_ble_eq_true rfl) (Nat.le_refl _) (Nat.le_refl _) dX5_refreshes_29 (fun x μ h => ?_)
          obtain ⟨rfl, hR⟩ := h
          refine vm_zald (pc := 32) O hR 3 rfl rfl (hWs2.node _) (x := (s2 3 (nodeOfF s2 (nI j2)))) rfl dX5_refreshes_32 ?_
          refine v_if_eq (pc := 33) (tgt := 38) O dX5_refreshes_33 (by decide) (fun c_33 => ?_) (fun c_33 => ?_)
          · refine v_aload_n (pc := 38) O dX5_refreshes_38 rfl ?_
            refine v_iload_n (pc := 39) O dX5_refreshes_39 rfl ?_
            refine v_iload_n (pc := 40) O dX5_refreshes_40 rfl ?_
            refine v_callVi0 (pc := 41) (nA := 2) O (mm_meets (xL X) Γ ad t (nI j2) hB (ir_nI hj2lt (by decide)) hWs2 hR) hR.1 rfl q2231 q2233 qs29 q71 q2234 (by decide +kernel) rfl rfl rfl rfl (Nat.le_of_ble_eq_true rfl) (Nat.le_refl _) (Nat.le_refl _) dX5_refreshes_41 (fun x μ h => ?_)
            obtain ⟨rfl, hR⟩ := h
            refine v_istore (pc := 44) (lv' := [(4, .int (meetsF s2 t (nI j2))), (3, .int (nI j2)), (0, .ref (ad 0)), (1, .int t), (2, .int to)]) O dX5_refreshes_44 rfl rfl ?_
            refine v_iload (pc := 46) O dX5_refreshes_46 rfl ?_
            refine v_iconst (pc := 48) O (x := -1) dX5_refreshes_48 (by decide) ?_
            refine v_icmp_eq (pc := 49) (tgt := 63) O dX5_refreshes_49 (by decide) (fun c_49 => ?_) (fun c_49 => ?_)
            · refine v_aload_n (pc := 63) O dX5_refreshes_63 rfl ?_
              refine v_iload_n (pc := 64) O dX5_refreshes_64 rfl ?_
              refine v_iload_n (pc := 65) O dX5_refreshes_65 rfl ?_
              refine v_callVi0 (pc := 66) (nA := 2) O (mm_latest (xL X) Γ ad (nI j2) to hB (WfM.meets hB hWs2) hR) hR.1 rfl q2263 q2265 qs37 q71 q2266 (by decide +kernel) rfl rfl rfl rfl (Nat.le_of_ble_eq_true rfl) (Nat.le_refl _) (Nat.le_refl _) dX5_refreshes_66 (fun x μ h => ?_)
              obtain ⟨rfl, hR⟩ := h
              refine v_aload_n (pc := 69) O dX5_refreshes_69 rfl ?_
              refine vm_get (pc := 70) O hR 19 rfl q2062 rfl dX5_refreshes_70 ?_
              refine v_iload_n (pc := 73) O dX5_refreshes_73 rfl ?_
              refine vm_iald (pc := 74) O hR 19 rfl rfl h_t (x := (s2 19 t)) ((congrFun (meetsS_g (by decide)) _).trans rfl) dX5_refreshes_74 ?_
              refine v_icmp_le (pc := 75) (tgt := 80) O dX5_refreshes_75 (by decide) (fun c_75 => ?_) (fun c_75 => ?_)
              · refine v_iinc (pc := 80) (y := (nI (j2 + 1))) (lv' := [(3, .int (nI (j2 + 1))), (4, .int (meetsF s2 t (nI j2))), (0, .ref (ad 0)), (1, .int t), (2, .int to)]) O dX5_refreshes_80 rfl (nI_inc _) rfl rfl ?_
                refine v_goto (pc := 83) O (tgt := 2) dX5_refreshes_83 (by decide) ?_
                exact v_locs [0, 2, 3, 4] rfl (ih2 (j2 + 1) (meetsS s2 t (nI j2)) _ (by omega) (by omega) (by rw [iter_s, ← he2]; simp [refStep, m19, m20, c_5, c_20, c_33, c_49, c_75]) (WfM.meets hB hWs2) hR)
              · refine v_iconst (pc := 78) O (x := 0) dX5_refreshes_78 (by decide) ?_
                have h1 : iter (refStep t to) (j2 + 1) (s, true) = ((meetsS s2 t (nI j2)), false) := by rw [iter_s, ← he2]; simp [refStep, m19, m20, c_20, c_33, c_49, c_75]
                have h2 := iter_stop h1 (refStep_stop t to) (show j2 + 1 ≤ 32 by omega)
                exact v_zret (pc := 79) O hr (Nat.le_refl _) (Nat.le_refl _) dX5_refreshes_79 rfl ⟨_, rfl, ⟨by simp [refB, h2, b2i], by simpa [refS, refB, h2] using hR⟩⟩
            · refine v_aload_n (pc := 52) O dX5_refreshes_52 rfl ?_
              refine vm_get (pc := 53) O hR 20 rfl q2063 rfl dX5_refreshes_53 ?_
              refine v_iload (pc := 56) O dX5_refreshes_56 rfl ?_
              refine vm_iald (pc := 58) O hR 20 rfl rfl (hWs2.mF c_49) (x := (s2 20 (meetsF s2 t (nI j2)))) ((congrFun (meetsS_g (by decide)) _).trans rfl) dX5_refreshes_58 ?_
              refine v_iload_n (pc := 59) O dX5_refreshes_59 rfl ?_
              refine v_icmp_le (pc := 60) (tgt := 78) O dX5_refreshes_60 (by decide) (fun c_60 => ?_) (fun c_60 => ?_)
              · refine v_iconst (pc := 78) O (x := 0) dX5_refreshes_78 (by decide) ?_
                have h1 : iter (refStep t to) (j2 + 1) (s, true) = ((meetsS s2 t (nI j2)), false) := by rw [iter_s, ← he2]; simp [refStep, m19, m20, c_20, c_33, c_49, c_60]
                have h2 := iter_stop h1 (refStep_stop t to) (show j2 + 1 ≤ 32 by omega)
                exact v_zret (pc := 79) O hr (Nat.le_refl _) (Nat.le_refl _) dX5_refreshes_79 rfl ⟨_, rfl, ⟨by simp [refB, h2, b2i], by simpa [refS, refB, h2] using hR⟩⟩
              · refine v_aload_n (pc := 63) O dX5_refreshes_63 rfl ?_
                refine v_iload_n (pc := 64) O dX5_refreshes_64 rfl ?_
                refine v_iload_n (pc := 65) O dX5_refreshes_65 rfl ?_
                refine v_callVi0 (pc := 66) (nA := 2) O (mm_latest (xL X) Γ ad (nI j2) to hB (WfM.meets hB hWs2) hR) hR.1 rfl q2263 q2265 qs37 q71 q2266 (by decide +kernel) rfl rfl rfl rfl (Nat.le_of_ble_eq_true rfl) (Nat.le_refl _) (Nat.le_refl _) dX5_refreshes_66 (fun x μ h => ?_)
                obtain ⟨rfl, hR⟩ := h
                refine v_aload_n (pc := 69) O dX5_refreshes_69 rfl ?_
                refine vm_get (pc := 70) O hR 19 rfl q2062 rfl dX5_refreshes_70 ?_
                refine v_iload_n (pc := 73) O dX5_refreshes_73 rfl ?_
                refine vm_iald (pc := 74) O hR 19 rfl rfl h_t (x := (s2 19 t)) ((congrFun (meetsS_g (by decide)) _).trans rfl) dX5_refreshes_74 ?_
                refine v_icmp_le (pc := 75) (tgt := 80) O dX5_refreshes_75 (by decide) (fun c_75 => ?_) (fun c_75 => ?_)
                · refine v_iinc (pc := 80) (y := (nI (j2 + 1))) (lv' := [(3, .int (nI (j2 + 1))), (4, .int (meetsF s2 t (nI j2))), (0, .ref (ad 0)), (1, .int t), (2, .int to)]) O dX5_refreshes_80 rfl (nI_inc _) rfl rfl ?_
                  refine v_goto (pc := 83) O (tgt := 2) dX5_refreshes_83 (by decide) ?_
                  exact v_locs [0, 2, 3, 4] rfl (ih2 (j2 + 1) (meetsS s2 t (nI j2)) _ (by omega) (by omega) (by rw [iter_s, ← he2]; simp [refStep, m19, m20, c_5, c_20, c_33, c_49, c_60, c_75]) (WfM.meets hB hWs2) hR)
                · refine v_iconst (pc := 78) O (x := 0) dX5_refreshes_78 (by decide) ?_
                  have h1 : iter (refStep t to) (j2 + 1) (s, true) = ((meetsS s2 t (nI j2)), false) := by rw [iter_s, ← he2]; simp [refStep, m19, m20, c_20, c_33, c_49, c_60, c_75]
                  have h2 := iter_stop h1 (refStep_stop t to) (show j2 + 1 ≤ 32 by omega)
                  exact v_zret (pc := 79) O hr (Nat.le_refl _) (Nat.le_refl _) dX5_refreshes_79 rfl ⟨_, rfl, ⟨by simp [refB, h2, b2i], by simpa [refS, refB, h2] using hR⟩⟩
          · refine v_iconst (pc := 36) O (x := 0) dX5_refreshes_36 (by decide) ?_
            have h1 : iter (refStep t to) (j2 + 1) (s, true) = (s2, false) := by rw [iter_s, ← he2]; simp [refStep, m19, m20, c_20, c_33]
            have h2 := iter_stop h1 (refStep_stop t to) (show j2 + 1 ≤ 32 by omega)
            exact v_zret (pc := 37) O hr (Nat.le_refl _) (Nat.le_refl _) dX5_refreshes_37 rfl ⟨_, rfl, ⟨by simp [refB, h2, b2i], by simpa [refS, refB, h2] using hR⟩⟩
  exact v_locs [0, 1, 2, 3] rfl (L2 (32 + 1) 0 s _ (by omega) (by omega) iter_0.symm hW hR)
set_option maxHeartbeats 4000000 in
theorem mm_restarts (l : Launch) (Γ : Gm) (ad : Nat → Nat) (t st : Int32) {s : St} {μ0 : Mem} (h_t : ir t (nI 40)) (hR : RepM Γ ad s μ0) : MetV l Γ yX5_restarts cX5_restarts 4 (some .int) 2 0 0 [.ref (ad 0), .int t, .int st] μ0 (PI (fun r9 μ1 => r9 = (-12) ∧ RepM Γ ad (restartsS s t st) μ1)) := by
  refine MetV.of (by decide +kernel) rfl ?_
  intro X sz hl hr hnm O
  subst hl
  show V X Γ _ 4 _ 0 0 μ0 0 [(0, .ref (ad 0)), (1, .int t), (2, .int st)] []
  refine v_iconst (pc := 0) O (x := 0) dX5_restarts_0 (by decide) ?_
  refine v_istore_n (pc := 1) (lv' := [(3, .int 0), (0, .ref (ad 0)), (1, .int t), (2, .int st)]) O dX5_restarts_1 rfl rfl ?_
  have L2 : ∀ (d2 j2 : Nat) (s2 : St) (μ : Mem), 32 < d2 + j2 → j2 ≤ 32 → s2 = iter (resStep t) j2 s → RepM Γ ad s2 μ → V X Γ (gA μ0 sz) 4 (QV X Γ μ0 sz (PI (fun r9 μ1 => r9 = (-12) ∧ RepM Γ ad (restartsS s t st) μ1)) 0 0) 0 0 μ 2 [(3, .int (nI j2)), (0, .ref (ad 0)), (1, .int t), (2, .int st)] [] := by
    intro d2
    induction d2 with
    | zero => intro j2 s2 μ h1 h2; exact absurd h1 (by omega)
    | succ d2 ih2 =>
      intro j2 s2 μ hd hj2 he2  hR
      refine v_iload_n (pc := 2) O dX5_restarts_2 rfl ?_
      refine v_bipush (pc := 3) O (x := 32) dX5_restarts_3 (by decide) ?_
      refine v_icmp_ge (pc := 5) (tgt := 40) O dX5_restarts_5 (by decide) (fun c_5 => ?_) (fun c_5 => ?_)
      · have hx2 := lp_out rfl (by decide) hj2 c_5
        subst hx2
        refine v_aload_n (pc := 40) O dX5_restarts_40 rfl ?_
        refine v_iload_n (pc := 41) O dX5_restarts_41 rfl ?_
        refine v_callVv0 (pc := 42) (nA := 1) O (mm_forgets (xL X) Γ ad t h_t hR) hR.1 rfl q2215 q2217 qs26 q71 q2218 (by decide +kernel) rfl rfl rfl rfl (Nat.le_of_ble_eq_true rfl) (Nat.le_refl _) (Nat.le_refl _) dX5_restarts_42 (fun μ hR => ?_)
        refine v_aload_n (pc := 45) O dX5_restarts_45 rfl ?_
        refine vm_get (pc := 46) O hR 19 rfl q2062 rfl dX5_restarts_46 ?_
        refine v_iload_n (pc := 49) O dX5_restarts_49 rfl ?_
        refine v_iload_n (pc := 50) O dX5_restarts_50 rfl ?_
        refine v_aload_n (pc := 51) O dX5_restarts_51 rfl ?_
        refine vm_get (pc := 52) O hR 20 rfl q2063 rfl dX5_restarts_52 ?_
        refine v_iload_n (pc := 55) O dX5_restarts_55 rfl ?_
        refine vm_iald (pc := 56) O hR 20 rfl rfl h_t (x := (s2 20 t)) ((congrFun (forgetsS_g (by decide)) _).trans rfl) dX5_restarts_56 ?_
        refine v_callSi0 (pc := 57) (nA := 2) O (mm_greater (xL X) Γ st (s2 20 t) _) q2164 q2165 q71 q2166 (by decide +kernel) rfl rfl rfl rfl (Nat.le_of_ble_eq_true rfl) (Nat.le_refl _) (Nat.le_refl _) dX5_restarts_57 (fun x μ1 h => ?_)
        obtain ⟨rfl, rfl⟩ := h
        refine vm_iast (pc := 60) O hR 19 rfl rfl h_t dX5_restarts_60 (fun μ hR => ?_)
        refine v_aload_n (pc := 61) O dX5_restarts_61 rfl ?_
        refine vm_get (pc := 62) O hR 20 rfl q2063 rfl dX5_restarts_62 ?_
        refine v_iload_n (pc := 65) O dX5_restarts_65 rfl ?_
        refine v_aload_n (pc := 66) O dX5_restarts_66 rfl ?_
        refine vm_get (pc := 67) O hR 19 rfl q2062 rfl dX5_restarts_67 ?_
        refine v_iload_n (pc := 70) O dX5_restarts_70 rfl ?_
        refine vm_iald (pc := 71) O hR 19 rfl rfl h_t (x := (gt2 st (s2 20 t))) sset_eq dX5_restarts_71 ?_
        refine vm_iast (pc := 72) O hR 20 rfl rfl h_t dX5_restarts_72 (fun μ hR => ?_)
        refine v_bipush (pc := 73) O (x := -12) dX5_restarts_73 (by decide) ?_
        exact v_iret (pc := 75) O hr (Nat.le_refl _) (Nat.le_refl _) dX5_restarts_75 ⟨_, rfl, ⟨by simp [restartsS, sset_eq, fg20, c_5, ← he2], by simpa [restartsS, sset_eq, fg20, c_5, ← he2] using hR⟩⟩
      · have hj2lt := lp_in rfl (by decide) hj2 c_5
        refine v_aload_n (pc := 8) O dX5_restarts_8 rfl ?_
        refine vm_get (pc := 9) O hR 7 rfl q2050 rfl dX5_restarts_9 ?_
        refine v_iload_n (pc := 12) O dX5_restarts_12 rfl ?_
        refine v_aload_n (pc := 13) O dX5_restarts_13 rfl ?_
        refine vm_get (pc := 14) O hR 7 rfl q2050 rfl dX5_restarts_14 ?_
        refine v_iload_n (pc := 17) O dX5_restarts_17 rfl ?_
        refine vm_iald (pc := 18) O hR 7 rfl rfl (ir_nI hj2lt (by decide)) (x := (s2 7 (nI j2))) rfl dX5_restarts_18 ?_
        refine v_iload_n (pc := 19) O dX5_restarts_19 rfl ?_
        refine v_icmp_ne (pc := 20) (tgt := 27) O dX5_restarts_20 (by decide) (fun c_20 => ?_) (fun c_20 => ?_)
        · refine v_aload_n (pc := 27) O dX5_restarts_27 rfl ?_
          refine vm_get (pc := 28) O hR 7 rfl q2050 rfl dX5_restarts_28 ?_
          refine v_iload_n (pc := 31) O dX5_restarts_31 rfl ?_
          refine vm_iald (pc := 32) O hR 7 rfl rfl (ir_nI hj2lt (by decide)) (x := (s2 7 (nI j2))) rfl dX5_restarts_32 ?_
          refine vm_iast (pc := 33) O hR 7 rfl rfl (ir_nI hj2lt (by decide)) dX5_restarts_33 (fun μ hR => ?_)
          refine v_iinc (pc := 34) (y := (nI (j2 + 1))) (lv' := [(3, .int (nI (j2 + 1))), (0, .ref (ad 0)), (1, .int t), (2, .int st)]) O dX5_restarts_34 rfl (nI_inc _) rfl rfl ?_
          refine v_goto (pc := 37) O (tgt := 2) dX5_restarts_37 (by decide) ?_
          exact v_locs [0, 1, 2, 3] rfl (ih2 (j2 + 1) (sset s2 7 (nI j2) (s2 7 (nI j2))) _ (by omega) (by omega) (by rw [iter_s, ← he2]; simp [resStep, sset_id, c_5, c_20])  hR)
        · refine v_iconst (pc := 23) O (x := -1) dX5_restarts_23 (by decide) ?_
          refine v_goto (pc := 24) O (tgt := 33) dX5_restarts_24 (by decide) ?_
          refine vm_iast (pc := 33) O hR 7 rfl rfl (ir_nI hj2lt (by decide)) dX5_restarts_33 (fun μ hR => ?_)
          refine v_iinc (pc := 34) (y := (nI (j2 + 1))) (lv' := [(3, .int (nI (j2 + 1))), (0, .ref (ad 0)), (1, .int t), (2, .int st)]) O dX5_restarts_34 rfl (nI_inc _) rfl rfl ?_
          refine v_goto (pc := 37) O (tgt := 2) dX5_restarts_37 (by decide) ?_
          exact v_locs [0, 1, 2, 3] rfl (ih2 (j2 + 1) (sset s2 7 (nI j2) (-1)) _ (by omega) (by omega) (by rw [iter_s, ← he2]; simp [resStep, sset_id, c_5, c_20])  hR)
  exact v_locs [0, 1, 2, 3] rfl (L2 (32 + 1) 0 s _ (by omega) (by omega) iter_0.symm  hR)
set_option maxHeartbeats 4000000 in
theorem mm_waitsFor (l : Launch) (Γ : Gm) (ad : Nat → Nat) (t : Int32) {s : St} {μ0 : Mem} {B : Nat} (h_t : ir t (nI 40)) (hW : WfM B s) (hR : RepM Γ ad s μ0) : MetV l Γ yX5_waitsFor cX5_waitsFor 2 (some .int) 1 0 0 [.ref (ad 0), .int t] μ0 (PI (fun r9 μ1 => r9 = (waitsF s t) ∧ RepM Γ ad s μ1)) := by
  refine MetV.of (by decide +kernel) rfl ?_
  intro X sz hl hr hnm O
  subst hl
  show V X Γ _ 2 _ 0 0 μ0 0 [(0, .ref (ad 0)), (1, .int t)] []
  refine v_aload_n (pc := 0) O dX5_waitsFor_0 rfl ?_
  refine vm_get (pc := 1) O hR 23 rfl q2066 rfl dX5_waitsFor_1 ?_
  refine v_iload_n (pc := 4) O dX5_waitsFor_4 rfl ?_
  refine vm_iald (pc := 5) O hR 23 rfl rfl h_t (x := (s 23 t)) rfl dX5_waitsFor_5 ?_
  refine v_if_ne (pc := 6) (tgt := 42) O dX5_waitsFor_6 (by decide) (fun c_6 => ?_) (fun c_6 => ?_)
  · refine v_iconst (pc := 42) O (x := -1) dX5_waitsFor_42 (by decide) ?_
    exact v_iret (pc := 43) O hr (Nat.le_refl _) (Nat.le_refl _) dX5_waitsFor_43 ⟨_, rfl, ⟨by simp [waitsF, c_6], by simpa [waitsF, c_6] using hR⟩⟩
  · refine v_aload_n (pc := 9) O dX5_waitsFor_9 rfl ?_
    refine vm_get (pc := 10) O hR 24 rfl q2067 rfl dX5_waitsFor_10 ?_
    refine v_iload_n (pc := 13) O dX5_waitsFor_13 rfl ?_
    refine vm_iald (pc := 14) O hR 24 rfl rfl h_t (x := (s 24 t)) rfl dX5_waitsFor_14 ?_
    refine v_iconst (pc := 15) O (x := -1) dX5_waitsFor_15 (by decide) ?_
    refine v_icmp_eq (pc := 16) (tgt := 42) O dX5_waitsFor_16 (by decide) (fun c_16 => ?_) (fun c_16 => ?_)
    · refine v_iconst (pc := 42) O (x := -1) dX5_waitsFor_42 (by decide) ?_
      exact v_iret (pc := 43) O hr (Nat.le_refl _) (Nat.le_refl _) dX5_waitsFor_43 ⟨_, rfl, ⟨by simp [waitsF, c_6, c_16], by simpa [waitsF, c_6, c_16] using hR⟩⟩
    · refine v_aload_n (pc := 19) O dX5_waitsFor_19 rfl ?_
      refine vm_get (pc := 20) O hR 23 rfl q2066 rfl dX5_waitsFor_20 ?_
      refine v_aload_n (pc := 23) O dX5_waitsFor_23 rfl ?_
      refine vm_get (pc := 24) O hR 24 rfl q2067 rfl dX5_waitsFor_24 ?_
      refine v_iload_n (pc := 27) O dX5_waitsFor_27 rfl ?_
      refine vm_iald (pc := 28) O hR 24 rfl rfl h_t (x := (s 24 t)) rfl dX5_waitsFor_28 ?_
      refine vm_iald (pc := 29) O hR 23 rfl rfl (hW.wai c_16) (x := (s 23 (s 24 t))) rfl dX5_waitsFor_29 ?_
      refine v_if_ne (pc := 30) (tgt := 42) O dX5_waitsFor_30 (by decide) (fun c_30 => ?_) (fun c_30 => ?_)
      · refine v_iconst (pc := 42) O (x := -1) dX5_waitsFor_42 (by decide) ?_
        exact v_iret (pc := 43) O hr (Nat.le_refl _) (Nat.le_refl _) dX5_waitsFor_43 ⟨_, rfl, ⟨by simp [waitsF, c_6, c_16, c_30], by simpa [waitsF, c_6, c_16, c_30] using hR⟩⟩
      · refine v_aload_n (pc := 33) O dX5_waitsFor_33 rfl ?_
        refine vm_get (pc := 34) O hR 24 rfl q2067 rfl dX5_waitsFor_34 ?_
        refine v_iload_n (pc := 37) O dX5_waitsFor_37 rfl ?_
        refine vm_iald (pc := 38) O hR 24 rfl rfl h_t (x := (s 24 t)) rfl dX5_waitsFor_38 ?_
        refine v_goto (pc := 39) O (tgt := 43) dX5_waitsFor_39 (by decide) ?_
        exact v_iret (pc := 43) O hr (Nat.le_refl _) (Nat.le_refl _) dX5_waitsFor_43 ⟨_, rfl, ⟨by simp [waitsF, c_6, c_16, c_30], by simpa [waitsF, c_6, c_16, c_30] using hR⟩⟩
set_option maxHeartbeats 4000000 in
theorem mm_waitAnswer (l : Launch) (Γ : Gm) (ad : Nat → Nat) (t : Int32) {s : St} {μ0 : Mem} (h_t : ir t (nI 40)) (hR : RepM Γ ad s μ0) : MetV l Γ yX5_waitAnswer cX5_waitAnswer 2 (some .int) 1 0 0 [.ref (ad 0), .int t] μ0 (PI (fun r9 μ1 => r9 = (waitAnsF s t) ∧ RepM Γ ad s μ1)) := by
  refine MetV.of (by decide +kernel) rfl ?_
  intro X sz hl hr hnm O
  subst hl
  show V X Γ _ 2 _ 0 0 μ0 0 [(0, .ref (ad 0)), (1, .int t)] []
  refine v_aload_n (pc := 0) O dX5_waitAnswer_0 rfl ?_
  refine vm_get (pc := 1) O hR 23 rfl q2066 rfl dX5_waitAnswer_1 ?_
  refine v_iload_n (pc := 4) O dX5_waitAnswer_4 rfl ?_
  refine vm_iald (pc := 5) O hR 23 rfl rfl h_t (x := (s 23 t)) rfl dX5_waitAnswer_5 ?_
  refine v_if_ne (pc := 6) (tgt := 14) O dX5_waitAnswer_6 (by decide) (fun c_6 => ?_) (fun c_6 => ?_)
  · refine v_bipush (pc := 14) O (x := -13) dX5_waitAnswer_14 (by decide) ?_
    exact v_iret (pc := 16) O hr (Nat.le_refl _) (Nat.le_refl _) dX5_waitAnswer_16 ⟨_, rfl, ⟨by simp [waitAnsF, c_6], by simpa [waitAnsF, c_6] using hR⟩⟩
  · refine v_bipush (pc := 9) O (x := -11) dX5_waitAnswer_9 (by decide) ?_
    refine v_goto (pc := 11) O (tgt := 16) dX5_waitAnswer_11 (by decide) ?_
    exact v_iret (pc := 16) O hr (Nat.le_refl _) (Nat.le_refl _) dX5_waitAnswer_16 ⟨_, rfl, ⟨by simp [waitAnsF, c_6], by simpa [waitAnsF, c_6] using hR⟩⟩
set_option maxHeartbeats 4000000 in
theorem mm_areThere (l : Launch) (Γ : Gm) (ad : Nat → Nat) (t key : Int32) {s : St} {μ0 : Mem}  (hR : RepM Γ ad s μ0) : MetV l Γ yX5_areThere cX5_areThere 3 (some .boolean) 2 0 0 [.ref (ad 0), .int t, .int key] μ0 (PI (fun r9 μ1 => r9 = (b2i (thereB s t key)) ∧ RepM Γ ad (sset s 31 0 (b2i (!thereB s t key))) μ1)) := by
  refine MetV.of (by decide +kernel) rfl ?_
  intro X sz hl hr hnm O
  subst hl
  show V X Γ _ 3 _ 0 0 μ0 0 [(0, .ref (ad 0)), (1, .int t), (2, .int key)] []
  refine v_aload_n (pc := 0) O dX5_areThere_0 rfl ?_
  refine v_iload_n (pc := 1) O dX5_areThere_1 rfl ?_
  refine v_iconst (pc := 2) O (x := 0) dX5_areThere_2 (by decide) ?_
  refine v_aload_n (pc := 3) O dX5_areThere_3 rfl ?_
  refine vm_geti (pc := 4) O hR 16 rfl q2059 (x := (s 16 0)) rfl rfl dX5_areThere_4 ?_
  refine v_iconst (pc := 7) O (x := 1) dX5_areThere_7 (by decide) ?_
  refine v_isub (pc := 8) O dX5_areThere_8 ?_
  refine v_callSi0 (pc := 9) (nA := 3) O (mm_in (xL X) Γ t 0 ((s 16 0) - 1) _) q2149 q2150 q71 q2151 (by decide +kernel) rfl rfl rfl rfl (Nat.le_of_ble_eq_true rfl) (Nat.le_refl _) (Nat.le_refl _) dX5_areThere_9 (fun x μ1 h => ?_)
  obtain ⟨rfl, rfl⟩ := h
  refine v_if_eq_b (pc := 12) (tgt := 29) O dX5_areThere_12 (by decide) (fun c_12 => ?_) (fun c_12 => ?_)
  · refine v_iconst (pc := 29) O (x := 1) dX5_areThere_29 (by decide) ?_
    refine vm_put (pc := 30) O hR 31 (by decide) q2074 dX5_areThere_30 (fun μ hR => ?_)
    refine v_aload_n (pc := 33) O dX5_areThere_33 rfl ?_
    refine vm_geti (pc := 34) O hR 31 rfl q2074 (x := 1) rfl sset_eq dX5_areThere_34 ?_
    refine v_if_ne (pc := 37) (tgt := 44) O dX5_areThere_37 (by decide) (fun _ => ?_) (fun c => absurd c (by decide))
    refine v_iconst (pc := 44) O (x := 0) dX5_areThere_44 (by decide) ?_
    exact v_zret (pc := 45) O hr (Nat.le_refl _) (Nat.le_refl _) dX5_areThere_45 rfl ⟨_, rfl, ⟨by simp [thereB, b2i, c_12], by simpa [thereB, b2i, c_12] using hR⟩⟩
  · refine v_iload_n (pc := 15) O dX5_areThere_15 rfl ?_
    refine v_iconst (pc := 16) O (x := 0) dX5_areThere_16 (by decide) ?_
    refine v_bipush (pc := 17) O (x := 31) dX5_areThere_17 (by decide) ?_
    refine v_callSi0 (pc := 19) (nA := 3) O (mm_in (xL X) Γ key 0 31 _) q2149 q2150 q71 q2151 (by decide +kernel) rfl rfl rfl rfl (Nat.le_of_ble_eq_true rfl) (Nat.le_refl _) (Nat.le_refl _) dX5_areThere_19 (fun x μ1 h => ?_)
    obtain ⟨rfl, rfl⟩ := h
    refine v_if_eq_b (pc := 22) (tgt := 29) O dX5_areThere_22 (by decide) (fun c_22 => ?_) (fun c_22 => ?_)
    · refine v_iconst (pc := 29) O (x := 1) dX5_areThere_29 (by decide) ?_
      refine vm_put (pc := 30) O hR 31 (by decide) q2074 dX5_areThere_30 (fun μ hR => ?_)
      refine v_aload_n (pc := 33) O dX5_areThere_33 rfl ?_
      refine vm_geti (pc := 34) O hR 31 rfl q2074 (x := 1) rfl sset_eq dX5_areThere_34 ?_
      refine v_if_ne (pc := 37) (tgt := 44) O dX5_areThere_37 (by decide) (fun _ => ?_) (fun c => absurd c (by decide))
      refine v_iconst (pc := 44) O (x := 0) dX5_areThere_44 (by decide) ?_
      exact v_zret (pc := 45) O hr (Nat.le_refl _) (Nat.le_refl _) dX5_areThere_45 rfl ⟨_, rfl, ⟨by simp [thereB, b2i, c_12, c_22], by simpa [thereB, b2i, c_12, c_22] using hR⟩⟩
    · refine v_iconst (pc := 25) O (x := 0) dX5_areThere_25 (by decide) ?_
      refine v_goto (pc := 26) O (tgt := 30) dX5_areThere_26 (by decide) ?_
      refine vm_put (pc := 30) O hR 31 (by decide) q2074 dX5_areThere_30 (fun μ hR => ?_)
      refine v_aload_n (pc := 33) O dX5_areThere_33 rfl ?_
      refine vm_geti (pc := 34) O hR 31 rfl q2074 (x := 0) rfl sset_eq dX5_areThere_34 ?_
      refine v_if_ne (pc := 37) (tgt := 44) O dX5_areThere_37 (by decide) (fun c => absurd (by decide) c) (fun _ => ?_)
      refine v_iconst (pc := 40) O (x := 1) dX5_areThere_40 (by decide) ?_
      refine v_goto (pc := 41) O (tgt := 45) dX5_areThere_41 (by decide) ?_
      exact v_zret (pc := 45) O hr (Nat.le_refl _) (Nat.le_refl _) dX5_areThere_45 rfl ⟨_, rfl, ⟨by simp [thereB, b2i, c_12, c_22], by simpa [thereB, b2i, c_12, c_22] using hR⟩⟩
set_option maxHeartbeats 4000000 in
theorem mm_isTransaction (l : Launch) (Γ : Gm) (ad : Nat → Nat) (t : Int32) {s : St} {μ0 : Mem}  (hR : RepM Γ ad s μ0) : MetV l Γ yX5_isTransaction cX5_isTransaction 2 (some .boolean) 2 0 0 [.ref (ad 0), .int t] μ0 (PI (fun r9 μ1 => r9 = (b2i (transB s t)) ∧ RepM Γ ad (sset s 31 0 (b2i (!transB s t))) μ1)) := by
  refine MetV.of (by decide +kernel) rfl ?_
  intro X sz hl hr hnm O
  subst hl
  show V X Γ _ 2 _ 0 0 μ0 0 [(0, .ref (ad 0)), (1, .int t)] []
  refine v_aload_n (pc := 0) O dX5_isTransaction_0 rfl ?_
  refine v_iload_n (pc := 1) O dX5_isTransaction_1 rfl ?_
  refine v_iconst (pc := 2) O (x := 0) dX5_isTransaction_2 (by decide) ?_
  refine v_aload_n (pc := 3) O dX5_isTransaction_3 rfl ?_
  refine vm_geti (pc := 4) O hR 16 rfl q2059 (x := (s 16 0)) rfl rfl dX5_isTransaction_4 ?_
  refine v_iconst (pc := 7) O (x := 1) dX5_isTransaction_7 (by decide) ?_
  refine v_isub (pc := 8) O dX5_isTransaction_8 ?_
  refine v_callSi0 (pc := 9) (nA := 3) O (mm_in (xL X) Γ t 0 ((s 16 0) - 1) _) q2149 q2150 q71 q2151 (by decide +kernel) rfl rfl rfl rfl (Nat.le_of_ble_eq_true rfl) (Nat.le_refl _) (Nat.le_refl _) dX5_isTransaction_9 (fun x μ1 h => ?_)
  obtain ⟨rfl, rfl⟩ := h
  refine v_if_eq_b (pc := 12) (tgt := 19) O dX5_isTransaction_12 (by decide) (fun c_12 => ?_) (fun c_12 => ?_)
  · refine v_iconst (pc := 19) O (x := 1) dX5_isTransaction_19 (by decide) ?_
    refine vm_put (pc := 20) O hR 31 (by decide) q2074 dX5_isTransaction_20 (fun μ hR => ?_)
    refine v_aload_n (pc := 23) O dX5_isTransaction_23 rfl ?_
    refine vm_geti (pc := 24) O hR 31 rfl q2074 (x := 1) rfl sset_eq dX5_isTransaction_24 ?_
    refine v_if_ne (pc := 27) (tgt := 34) O dX5_isTransaction_27 (by decide) (fun _ => ?_) (fun c => absurd c (by decide))
    refine v_iconst (pc := 34) O (x := 0) dX5_isTransaction_34 (by decide) ?_
    exact v_zret (pc := 35) O hr (Nat.le_refl _) (Nat.le_refl _) dX5_isTransaction_35 rfl ⟨_, rfl, ⟨by simp [transB, b2i, c_12], by simpa [transB, b2i, c_12] using hR⟩⟩
  · refine v_iconst (pc := 15) O (x := 0) dX5_isTransaction_15 (by decide) ?_
    refine v_goto (pc := 16) O (tgt := 20) dX5_isTransaction_16 (by decide) ?_
    refine vm_put (pc := 20) O hR 31 (by decide) q2074 dX5_isTransaction_20 (fun μ hR => ?_)
    refine v_aload_n (pc := 23) O dX5_isTransaction_23 rfl ?_
    refine vm_geti (pc := 24) O hR 31 rfl q2074 (x := 0) rfl sset_eq dX5_isTransaction_24 ?_
    refine v_if_ne (pc := 27) (tgt := 34) O dX5_isTransaction_27 (by decide) (fun c => absurd (by decide) c) (fun _ => ?_)
    refine v_iconst (pc := 30) O (x := 1) dX5_isTransaction_30 (by decide) ?_
    refine v_goto (pc := 31) O (tgt := 35) dX5_isTransaction_31 (by decide) ?_
    exact v_zret (pc := 35) O hr (Nat.le_refl _) (Nat.le_refl _) dX5_isTransaction_35 rfl ⟨_, rfl, ⟨by simp [transB, b2i, c_12], by simpa [transB, b2i, c_12] using hR⟩⟩
set_option maxHeartbeats 4000000 in
theorem mm_opens (l : Launch) (Γ : Gm) (ad : Nat → Nat) (t key : Int32) {s : St} {μ0 : Mem} {B : Nat} (h_t : ir t (nI 40)) (hW : WfM B s) (hR : RepM Γ ad s μ0) : MetV l Γ yX5_opens cX5_opens 5 (some .int) 3 0 0 [.ref (ad 0), .int t, .int key] μ0 (PI (fun r9 μ1 => r9 = (opensF s t key) ∧ RepM Γ ad (opensS s t key) μ1)) := by
  refine MetV.of (by decide +kernel) rfl ?_
  intro X sz hl hr hnm O
  subst hl
  show V X Γ _ 5 _ 0 0 μ0 0 [(0, .ref (ad 0)), (1, .int t), (2, .int key)] []
  refine v_aload_n (pc := 0) O dX5_opens_0 rfl ?_
  refine vm_get (pc := 1) O hR 23 rfl q2066 rfl dX5_opens_1 ?_
  refine v_iload_n (pc := 4) O dX5_opens_4 rfl ?_
  refine vm_iald (pc := 5) O hR 23 rfl rfl h_t (x := (s 23 t)) rfl dX5_opens_5 ?_
  refine v_if_eq (pc := 6) (tgt := 12) O dX5_opens_6 (by decide) (fun c_6 => ?_) (fun c_6 => ?_)
  · refine v_aload_n (pc := 12) O dX5_opens_12 rfl ?_
    refine v_iload_n (pc := 13) O dX5_opens_13 rfl ?_
    refine v_callVi0 (pc := 14) (nA := 1) O (mm_nodeOf (xL X) Γ ad key hW hR) hR.1 rfl q2179 q2181 qs23 q71 q2182 (by decide +kernel) rfl rfl rfl rfl (Nat.le_of_ble_eq_true rfl) (Nat.le_refl _) (Nat.le_refl _) dX5_opens_14 (fun x μ h => ?_)
    obtain ⟨rfl, hR⟩ := h
    refine v_istore_n (pc := 17) (lv' := [(3, .int (nodeOfF s key)), (0, .ref (ad 0)), (1, .int t), (2, .int key)]) O dX5_opens_17 rfl rfl ?_
    refine v_aload_n (pc := 18) O dX5_opens_18 rfl ?_
    refine vm_get (pc := 19) O hR 3 rfl q2046 rfl dX5_opens_19 ?_
    refine v_aload_n (pc := 22) O dX5_opens_22 rfl ?_
    refine vm_get (pc := 23) O hR 17 rfl q2060 rfl dX5_opens_23 ?_
    refine v_iload_n (pc := 26) O dX5_opens_26 rfl ?_
    refine vm_iald (pc := 27) O hR 17 rfl rfl h_t (x := (s 17 t)) rfl dX5_opens_27 ?_
    refine vm_zald (pc := 28) O hR 3 rfl rfl (hW.2.1 _) (x := (s 3 (s 17 t))) rfl dX5_opens_28 ?_
    refine v_if_ne (pc := 29) (tgt := 41) O dX5_opens_29 (by decide) (fun c_29 => ?_) (fun c_29 => ?_)
    · refine v_bipush (pc := 41) O (x := -14) dX5_opens_41 (by decide) ?_
      exact v_iret (pc := 43) O hr (Nat.le_refl _) (Nat.le_refl _) dX5_opens_43 ⟨_, rfl, ⟨by simp [opensF, opensS, opensS1, c_6, c_29], by simpa [opensF, opensS, opensS1, c_6, c_29] using hR⟩⟩
    · refine v_aload_n (pc := 32) O dX5_opens_32 rfl ?_
      refine vm_get (pc := 33) O hR 3 rfl q2046 rfl dX5_opens_33 ?_
      refine v_iload_n (pc := 36) O dX5_opens_36 rfl ?_
      refine vm_zald (pc := 37) O hR 3 rfl rfl (hW.node _) (x := (s 3 (nodeOfF s key))) rfl dX5_opens_37 ?_
      refine v_if_eq (pc := 38) (tgt := 44) O dX5_opens_38 (by decide) (fun c_38 => ?_) (fun c_38 => ?_)
      · refine v_aload_n (pc := 44) O dX5_opens_44 rfl ?_
        refine vm_get (pc := 45) O hR 24 rfl q2067 rfl dX5_opens_45 ?_
        refine v_iload_n (pc := 48) O dX5_opens_48 rfl ?_
        refine v_iconst (pc := 49) O (x := -1) dX5_opens_49 (by decide) ?_
        refine vm_iast (pc := 50) O hR 24 rfl rfl h_t dX5_opens_50 (fun μ hR => ?_)
        refine v_aload_n (pc := 51) O dX5_opens_51 rfl ?_
        refine vm_get (pc := 52) O hR 2 rfl q2045 rfl dX5_opens_52 ?_
        refine v_iload_n (pc := 55) O dX5_opens_55 rfl ?_
        refine v_aload_n (pc := 56) O dX5_opens_56 rfl ?_
        refine vm_get (pc := 57) O hR 2 rfl q2045 rfl dX5_opens_57 ?_
        refine v_iload_n (pc := 60) O dX5_opens_60 rfl ?_
        refine vm_iald (pc := 61) O hR 2 rfl rfl (hW.node _) (x := (s 2 (nodeOfF s key))) ((sset_f (by decide)).trans rfl) dX5_opens_61 ?_
        refine v_aload_n (pc := 62) O dX5_opens_62 rfl ?_
        refine vm_get (pc := 63) O hR 19 rfl q2062 rfl dX5_opens_63 ?_
        refine v_iload_n (pc := 66) O dX5_opens_66 rfl ?_
        refine vm_iald (pc := 67) O hR 19 rfl rfl h_t (x := (s 19 t)) ((sset_f (by decide)).trans rfl) dX5_opens_67 ?_
        refine v_callSi0 (pc := 68) (nA := 2) O (mm_greater (xL X) Γ (s 2 (nodeOfF s key)) (s 19 t) _) q2164 q2165 q71 q2166 (by decide +kernel) rfl rfl rfl rfl (Nat.le_of_ble_eq_true rfl) (Nat.le_refl _) (Nat.le_refl _) dX5_opens_68 (fun x μ1 h => ?_)
        obtain ⟨rfl, rfl⟩ := h
        refine vm_iast (pc := 71) O hR 2 rfl rfl (hW.node _) dX5_opens_71 (fun μ hR => ?_)
        refine v_aload_n (pc := 72) O dX5_opens_72 rfl ?_
        refine vm_get (pc := 73) O hR 27 rfl q2070 rfl dX5_opens_73 ?_
        refine v_iconst (pc := 76) O (x := 4) dX5_opens_76 (by decide) ?_
        refine v_iload_n (pc := 77) O dX5_opens_77 rfl ?_
        refine v_imul (pc := 78) O dX5_opens_78 ?_
        refine v_iload_n (pc := 79) O dX5_opens_79 rfl ?_
        refine v_iadd (pc := 80) O dX5_opens_80 ?_
        refine vm_iald (pc := 81) O hR 27 rfl rfl (ir_4 h_t (hW.node _)) (x := (s 27 ((4 * t) + (nodeOfF s key)))) ((sset_f (by decide)).trans ((sset_f (by decide)).trans rfl)) dX5_opens_81 ?_
        refine v_iconst (pc := 82) O (x := -1) dX5_opens_82 (by decide) ?_
        refine v_icmp_ne (pc := 83) (tgt := 125) O dX5_opens_83 (by decide) (fun c_83 => ?_) (fun c_83 => ?_)
        · refine v_iconst (pc := 125) O (x := 0) dX5_opens_125 (by decide) ?_
          exact v_iret (pc := 126) O hr (Nat.le_refl _) (Nat.le_refl _) dX5_opens_126 ⟨_, rfl, ⟨by simp [opensF, opensS, opensS1, c_6, c_29, c_38, c_83], by simpa [opensF, opensS, opensS1, c_6, c_29, c_38, c_83] using hR⟩⟩
        · refine v_aload_n (pc := 86) O dX5_opens_86 rfl ?_
          refine v_iload_n (pc := 87) O dX5_opens_87 rfl ?_
          refine v_callVi0 (pc := 88) (nA := 1) O (mm_asks (xL X) Γ ad (nodeOfF s key) (hW.node _) hR) hR.1 rfl q2160 q2162 qs21 q71 q2163 (by decide +kernel) rfl rfl rfl rfl (Nat.le_of_ble_eq_true rfl) (Nat.le_refl _) (Nat.le_refl _) dX5_opens_88 (fun x μ h => ?_)
          obtain ⟨rfl, hR⟩ := h
          refine v_istore (pc := 91) (lv' := [(4, .int (asksF (sset (sset s 24 t (-1)) 2 (nodeOfF s key) (gt2 (s 2 (nodeOfF s key)) (s 19 t))) (nodeOfF s key))), (3, .int (nodeOfF s key)), (0, .ref (ad 0)), (1, .int t), (2, .int key)]) O dX5_opens_91 rfl rfl ?_
          refine v_aload_n (pc := 93) O dX5_opens_93 rfl ?_
          refine vm_get (pc := 94) O hR 27 rfl q2070 rfl dX5_opens_94 ?_
          refine v_iconst (pc := 97) O (x := 4) dX5_opens_97 (by decide) ?_
          refine v_iload_n (pc := 98) O dX5_opens_98 rfl ?_
          refine v_imul (pc := 99) O dX5_opens_99 ?_
          refine v_iload_n (pc := 100) O dX5_opens_100 rfl ?_
          refine v_iadd (pc := 101) O dX5_opens_101 ?_
          refine v_iload (pc := 102) O dX5_opens_102 rfl ?_
          refine v_aload_n (pc := 104) O dX5_opens_104 rfl ?_
          refine vm_get (pc := 105) O hR 21 rfl q2064 rfl dX5_opens_105 ?_
          refine v_iload_n (pc := 108) O dX5_opens_108 rfl ?_
          refine vm_iald (pc := 109) O hR 21 rfl rfl h_t (x := (s 21 t)) ((congrFun (asksS_g (by decide)) _).trans ((sset_f (by decide)).trans ((sset_f (by decide)).trans rfl))) dX5_opens_109 ?_
          refine v_icmp_ge (pc := 110) (tgt := 118) O dX5_opens_110 (by decide) (fun c_110 => ?_) (fun c_110 => ?_)
          · refine v_aload_n (pc := 118) O dX5_opens_118 rfl ?_
            refine vm_get (pc := 119) O hR 21 rfl q2064 rfl dX5_opens_119 ?_
            refine v_iload_n (pc := 122) O dX5_opens_122 rfl ?_
            refine vm_iald (pc := 123) O hR 21 rfl rfl h_t (x := (s 21 t)) ((congrFun (asksS_g (by decide)) _).trans ((sset_f (by decide)).trans ((sset_f (by decide)).trans rfl))) dX5_opens_123 ?_
            refine vm_iast (pc := 124) O hR 27 rfl rfl (ir_4 h_t (hW.node _)) dX5_opens_124 (fun μ hR => ?_)
            refine v_iconst (pc := 125) O (x := 0) dX5_opens_125 (by decide) ?_
            exact v_iret (pc := 126) O hr (Nat.le_refl _) (Nat.le_refl _) dX5_opens_126 ⟨_, rfl, ⟨by simp [opensF, opensS, opensS1, c_6, c_29, c_38, c_83, c_110], by simpa [opensF, opensS, opensS1, c_6, c_29, c_38, c_83, c_110] using hR⟩⟩
          · refine v_iload (pc := 113) O dX5_opens_113 rfl ?_
            refine v_goto (pc := 115) O (tgt := 124) dX5_opens_115 (by decide) ?_
            refine vm_iast (pc := 124) O hR 27 rfl rfl (ir_4 h_t (hW.node _)) dX5_opens_124 (fun μ hR => ?_)
            refine v_iconst (pc := 125) O (x := 0) dX5_opens_125 (by decide) ?_
            exact v_iret (pc := 126) O hr (Nat.le_refl _) (Nat.le_refl _) dX5_opens_126 ⟨_, rfl, ⟨by simp [opensF, opensS, opensS1, c_6, c_29, c_38, c_83, c_110], by simpa [opensF, opensS, opensS1, c_6, c_29, c_38, c_83, c_110] using hR⟩⟩
      · refine v_bipush (pc := 41) O (x := -14) dX5_opens_41 (by decide) ?_
        exact v_iret (pc := 43) O hr (Nat.le_refl _) (Nat.le_refl _) dX5_opens_43 ⟨_, rfl, ⟨by simp [opensF, opensS, opensS1, c_6, c_29, c_38], by simpa [opensF, opensS, opensS1, c_6, c_29, c_38] using hR⟩⟩
  · refine v_bipush (pc := 9) O (x := -13) dX5_opens_9 (by decide) ?_
    exact v_iret (pc := 11) O hr (Nat.le_refl _) (Nat.le_refl _) dX5_opens_11 ⟨_, rfl, ⟨by simp [opensF, opensS, opensS1, c_6], by simpa [opensF, opensS, opensS1, c_6] using hR⟩⟩
set_option maxHeartbeats 4000000 in
theorem mm_comesAnew (l : Launch) (Γ : Gm) (ad : Nat → Nat) (t o : Int32) {s : St} {μ0 : Mem} {B : Nat} (h_t : ir t (nI 40)) (h_o : ir o (nI 40)) (hW : WfM B s) (hR : RepM Γ ad s μ0) : MetV l Γ yX5_comesAnew cX5_comesAnew 6 (some .boolean) 2 0 0 [.ref (ad 0), .int t, .int o] μ0 (PI (fun r9 μ1 => r9 = (b2i (anewB s t o)) ∧ RepM Γ ad (anewS s t o) μ1)) := by
  refine MetV.of (by decide +kernel) rfl ?_
  intro X sz hl hr hnm O
  subst hl
  show V X Γ _ 6 _ 0 0 μ0 0 [(0, .ref (ad 0)), (1, .int t), (2, .int o)] []
  refine v_aload_n (pc := 0) O dX5_comesAnew_0 rfl ?_
  refine vm_get (pc := 1) O hR 24 rfl q2067 rfl dX5_comesAnew_1 ?_
  refine v_iload_n (pc := 4) O dX5_comesAnew_4 rfl ?_
  refine v_iload_n (pc := 5) O dX5_comesAnew_5 rfl ?_
  refine vm_iast (pc := 6) O hR 24 rfl rfl h_t dX5_comesAnew_6 (fun μ hR => ?_)
  refine v_iload_n (pc := 7) O dX5_comesAnew_7 rfl ?_
  refine v_istore_n (pc := 8) (lv' := [(3, .int t), (0, .ref (ad 0)), (1, .int t), (2, .int o)]) O dX5_comesAnew_8 rfl rfl ?_
  refine v_iload_n (pc := 9) O dX5_comesAnew_9 rfl ?_
  refine v_istore (pc := 10) (lv' := [(4, .int o), (3, .int t), (0, .ref (ad 0)), (1, .int t), (2, .int o)]) O dX5_comesAnew_10 rfl rfl ?_
  refine v_iconst (pc := 12) O (x := 0) dX5_comesAnew_12 (by decide) ?_
  refine v_istore (pc := 13) (lv' := [(5, .int 0), (4, .int o), (3, .int t), (0, .ref (ad 0)), (1, .int t), (2, .int o)]) O dX5_comesAnew_13 rfl rfl ?_
  have L15 : ∀ (d15 j15 : Nat) (v15_3 v15_4 : Int32) (μ : Mem), 40 < d15 + j15 → j15 ≤ 40 → ringGo (sset s 24 t o) t 40 (t, o) = ringGo (sset s 24 t o) t (40 - j15) (v15_3, v15_4) → ir v15_3 (nI 40) → (v15_4 = -1 ∨ ir v15_4 (nI 40)) → RepM Γ ad (sset s 24 t o) μ → V X Γ (gA μ0 sz) 6 (QV X Γ μ0 sz (PI (fun r9 μ1 => r9 = (b2i (anewB s t o)) ∧ RepM Γ ad (anewS s t o) μ1)) 0 0) 0 0 μ 15 [(5, .int (nI j15)), (4, .int v15_4), (3, .int v15_3), (0, .ref (ad 0)), (1, .int t), (2, .int o)] [] := by
    intro d15
    induction d15 with
    | zero => intro j15 v15_3 v15_4 μ h1 h2; exact absurd h1 (by omega)
    | succ d15 ih15 =>
      intro j15 v15_3 v15_4 μ hd hj15 he15 hv ha hR
      refine v_iload (pc := 15) O dX5_comesAnew_15 rfl ?_
      refine v_iconst (pc := 17) O (x := -1) dX5_comesAnew_17 (by decide) ?_
      refine v_icmp_eq (pc := 18) (tgt := 93) O dX5_comesAnew_18 (by decide) (fun c_18 => ?_) (fun c_18 => ?_)
      · have hf := he15.trans (ring_stop (Or.inl c_18) _)
        refine v_iload (pc := 93) O dX5_comesAnew_93 rfl ?_
        refine v_iload_n (pc := 95) O dX5_comesAnew_95 rfl ?_
        refine v_icmp_eq (pc := 96) (tgt := 101) O dX5_comesAnew_96 (by decide) (fun c_96 => ?_) (fun c_96 => ?_)
        · refine v_aload_n (pc := 101) O dX5_comesAnew_101 rfl ?_
          refine vm_get (pc := 102) O hR 23 rfl q2066 rfl dX5_comesAnew_102 ?_
          refine v_iload_n (pc := 105) O dX5_comesAnew_105 rfl ?_
          refine v_iconst (pc := 106) O (x := 3) dX5_comesAnew_106 (by decide) ?_
          refine vm_iast (pc := 107) O hR 23 rfl rfl hv dX5_comesAnew_107 (fun μ hR => ?_)
          refine v_aload_n (pc := 108) O dX5_comesAnew_108 rfl ?_
          refine vm_get (pc := 109) O hR 24 rfl q2067 rfl dX5_comesAnew_109 ?_
          refine v_iload_n (pc := 112) O dX5_comesAnew_112 rfl ?_
          refine v_iconst (pc := 113) O (x := -1) dX5_comesAnew_113 (by decide) ?_
          refine vm_iast (pc := 114) O hR 24 rfl rfl h_t dX5_comesAnew_114 (fun μ hR => ?_)
          refine v_iload_n (pc := 115) O dX5_comesAnew_115 rfl ?_
          refine v_iload_n (pc := 116) O dX5_comesAnew_116 rfl ?_
          refine v_icmp_eq (pc := 117) (tgt := 124) O dX5_comesAnew_117 (by decide) (fun c_117 => ?_) (fun c_117 => ?_)
          · refine v_iconst (pc := 124) O (x := 0) dX5_comesAnew_124 (by decide) ?_
            exact v_zret (pc := 125) O hr (Nat.le_refl _) (Nat.le_refl _) dX5_comesAnew_125 rfl ⟨_, rfl, ⟨by simp [anewB, anewP, hf, b2i, c_96, c_117], by simpa [anewS, anewP, hf, c_96, c_117] using hR⟩⟩
          · refine v_iconst (pc := 120) O (x := 1) dX5_comesAnew_120 (by decide) ?_
            refine v_goto (pc := 121) O (tgt := 125) dX5_comesAnew_121 (by decide) ?_
            exact v_zret (pc := 125) O hr (Nat.le_refl _) (Nat.le_refl _) dX5_comesAnew_125 rfl ⟨_, rfl, ⟨by simp [anewB, anewP, hf, b2i, c_96, c_117], by simpa [anewS, anewP, hf, c_96, c_117] using hR⟩⟩
        · refine v_iconst (pc := 99) O (x := 0) dX5_comesAnew_99 (by decide) ?_
          exact v_zret (pc := 100) O hr (Nat.le_refl _) (Nat.le_refl _) dX5_comesAnew_100 rfl ⟨_, rfl, ⟨by simp [anewB, anewP, hf, b2i, c_96], by simpa [anewS, anewP, hf, c_96] using hR⟩⟩
      · have h_a : ir v15_4 (nI 40) := ha.resolve_left c_18
        refine v_iload (pc := 21) O dX5_comesAnew_21 rfl ?_
        refine v_iload_n (pc := 23) O dX5_comesAnew_23 rfl ?_
        refine v_icmp_eq (pc := 24) (tgt := 93) O dX5_comesAnew_24 (by decide) (fun c_24 => ?_) (fun c_24 => ?_)
        · have hf := he15.trans (ring_stop (Or.inr c_24) _)
          refine v_iload (pc := 93) O dX5_comesAnew_93 rfl ?_
          refine v_iload_n (pc := 95) O dX5_comesAnew_95 rfl ?_
          refine v_icmp_eq (pc := 96) (tgt := 101) O dX5_comesAnew_96 (by decide) (fun c_96 => ?_) (fun c_96 => ?_)
          · refine v_aload_n (pc := 101) O dX5_comesAnew_101 rfl ?_
            refine vm_get (pc := 102) O hR 23 rfl q2066 rfl dX5_comesAnew_102 ?_
            refine v_iload_n (pc := 105) O dX5_comesAnew_105 rfl ?_
            refine v_iconst (pc := 106) O (x := 3) dX5_comesAnew_106 (by decide) ?_
            refine vm_iast (pc := 107) O hR 23 rfl rfl hv dX5_comesAnew_107 (fun μ hR => ?_)
            refine v_aload_n (pc := 108) O dX5_comesAnew_108 rfl ?_
            refine vm_get (pc := 109) O hR 24 rfl q2067 rfl dX5_comesAnew_109 ?_
            refine v_iload_n (pc := 112) O dX5_comesAnew_112 rfl ?_
            refine v_iconst (pc := 113) O (x := -1) dX5_comesAnew_113 (by decide) ?_
            refine vm_iast (pc := 114) O hR 24 rfl rfl h_t dX5_comesAnew_114 (fun μ hR => ?_)
            refine v_iload_n (pc := 115) O dX5_comesAnew_115 rfl ?_
            refine v_iload_n (pc := 116) O dX5_comesAnew_116 rfl ?_
            refine v_icmp_eq (pc := 117) (tgt := 124) O dX5_comesAnew_117 (by decide) (fun c_117 => ?_) (fun c_117 => ?_)
            · refine v_iconst (pc := 124) O (x := 0) dX5_comesAnew_124 (by decide) ?_
              exact v_zret (pc := 125) O hr (Nat.le_refl _) (Nat.le_refl _) dX5_comesAnew_125 rfl ⟨_, rfl, ⟨by simp [anewB, anewP, hf, b2i, c_96, c_117], by simpa [anewS, anewP, hf, c_96, c_117] using hR⟩⟩
            · refine v_iconst (pc := 120) O (x := 1) dX5_comesAnew_120 (by decide) ?_
              refine v_goto (pc := 121) O (tgt := 125) dX5_comesAnew_121 (by decide) ?_
              exact v_zret (pc := 125) O hr (Nat.le_refl _) (Nat.le_refl _) dX5_comesAnew_125 rfl ⟨_, rfl, ⟨by simp [anewB, anewP, hf, b2i, c_96, c_117], by simpa [anewS, anewP, hf, c_96, c_117] using hR⟩⟩
          · refine v_iconst (pc := 99) O (x := 0) dX5_comesAnew_99 (by decide) ?_
            exact v_zret (pc := 100) O hr (Nat.le_refl _) (Nat.le_refl _) dX5_comesAnew_100 rfl ⟨_, rfl, ⟨by simp [anewB, anewP, hf, b2i, c_96], by simpa [anewS, anewP, hf, c_96] using hR⟩⟩
        · refine v_iload (pc := 27) O dX5_comesAnew_27 rfl ?_
          refine v_bipush (pc := 29) O (x := 40) dX5_comesAnew_29 (by decide) ?_
          refine v_icmp_ge (pc := 31) (tgt := 93) O dX5_comesAnew_31 (by decide) (fun c_31 => ?_) (fun c_31 => ?_)
          · have hx15 := lp_out (N := 40) rfl (by decide) hj15 c_31
            subst hx15
            have hf := he15.trans ringGo_0
            refine v_iload (pc := 93) O dX5_comesAnew_93 rfl ?_
            refine v_iload_n (pc := 95) O dX5_comesAnew_95 rfl ?_
            refine v_icmp_eq (pc := 96) (tgt := 101) O dX5_comesAnew_96 (by decide) (fun c_96 => ?_) (fun c_96 => ?_)
            · refine v_aload_n (pc := 101) O dX5_comesAnew_101 rfl ?_
              refine vm_get (pc := 102) O hR 23 rfl q2066 rfl dX5_comesAnew_102 ?_
              refine v_iload_n (pc := 105) O dX5_comesAnew_105 rfl ?_
              refine v_iconst (pc := 106) O (x := 3) dX5_comesAnew_106 (by decide) ?_
              refine vm_iast (pc := 107) O hR 23 rfl rfl hv dX5_comesAnew_107 (fun μ hR => ?_)
              refine v_aload_n (pc := 108) O dX5_comesAnew_108 rfl ?_
              refine vm_get (pc := 109) O hR 24 rfl q2067 rfl dX5_comesAnew_109 ?_
              refine v_iload_n (pc := 112) O dX5_comesAnew_112 rfl ?_
              refine v_iconst (pc := 113) O (x := -1) dX5_comesAnew_113 (by decide) ?_
              refine vm_iast (pc := 114) O hR 24 rfl rfl h_t dX5_comesAnew_114 (fun μ hR => ?_)
              refine v_iload_n (pc := 115) O dX5_comesAnew_115 rfl ?_
              refine v_iload_n (pc := 116) O dX5_comesAnew_116 rfl ?_
              refine v_icmp_eq (pc := 117) (tgt := 124) O dX5_comesAnew_117 (by decide) (fun c_117 => ?_) (fun c_117 => ?_)
              · refine v_iconst (pc := 124) O (x := 0) dX5_comesAnew_124 (by decide) ?_
                exact v_zret (pc := 125) O hr (Nat.le_refl _) (Nat.le_refl _) dX5_comesAnew_125 rfl ⟨_, rfl, ⟨by simp [anewB, anewP, hf, b2i, c_96, c_117], by simpa [anewS, anewP, hf, c_96, c_117] using hR⟩⟩
              · refine v_iconst (pc := 120) O (x := 1) dX5_comesAnew_120 (by decide) ?_
                refine v_goto (pc := 121) O (tgt := 125) dX5_comesAnew_121 (by decide) ?_
                exact v_zret (pc := 125) O hr (Nat.le_refl _) (Nat.le_refl _) dX5_comesAnew_125 rfl ⟨_, rfl, ⟨by simp [anewB, anewP, hf, b2i, c_96, c_117], by simpa [anewS, anewP, hf, c_96, c_117] using hR⟩⟩
            · refine v_iconst (pc := 99) O (x := 0) dX5_comesAnew_99 (by decide) ?_
              exact v_zret (pc := 100) O hr (Nat.le_refl _) (Nat.le_refl _) dX5_comesAnew_100 rfl ⟨_, rfl, ⟨by simp [anewB, anewP, hf, b2i, c_96], by simpa [anewS, anewP, hf, c_96] using hR⟩⟩
          · have hj15lt := lp_in (N := 40) rfl (by decide) hj15 c_31
            refine v_aload_n (pc := 34) O dX5_comesAnew_34 rfl ?_
            refine vm_get (pc := 35) O hR 18 rfl q2061 rfl dX5_comesAnew_35 ?_
            refine v_iload (pc := 38) O dX5_comesAnew_38 rfl ?_
            refine vm_iald (pc := 40) O hR 18 rfl rfl h_a (x := (s 18 v15_4)) ((sset_f (by decide)).trans rfl) dX5_comesAnew_40 ?_
            refine v_aload_n (pc := 41) O dX5_comesAnew_41 rfl ?_
            refine vm_get (pc := 42) O hR 18 rfl q2061 rfl dX5_comesAnew_42 ?_
            refine v_iload_n (pc := 45) O dX5_comesAnew_45 rfl ?_
            refine vm_iald (pc := 46) O hR 18 rfl rfl hv (x := (s 18 v15_3)) ((sset_f (by decide)).trans rfl) dX5_comesAnew_46 ?_
            refine v_icmp_lt (pc := 47) (tgt := 72) O dX5_comesAnew_47 (by decide) (fun c_47 => ?_) (fun c_47 => ?_)
            · refine v_iload (pc := 72) O dX5_comesAnew_72 rfl ?_
              refine v_goto (pc := 74) O (tgt := 78) dX5_comesAnew_74 (by decide) ?_
              refine v_istore_n (pc := 78) (lv' := [(3, .int v15_4), (5, .int (nI j15)), (4, .int v15_4), (0, .ref (ad 0)), (1, .int t), (2, .int o)]) O dX5_comesAnew_78 rfl rfl ?_
              refine v_aload_n (pc := 79) O dX5_comesAnew_79 rfl ?_
              refine v_iload (pc := 80) O dX5_comesAnew_80 rfl ?_
              refine v_callVi0 (pc := 82) (nA := 1) O (mm_waitsFor (xL X) Γ ad v15_4 h_a (hW.s24 (ir_w h_o)) hR) hR.1 rfl q2255 q2257 qs35 q71 q2258 (by decide +kernel) rfl rfl rfl rfl (Nat.le_of_ble_eq_true rfl) (Nat.le_refl _) (Nat.le_refl _) dX5_comesAnew_82 (fun x μ h => ?_)
              obtain ⟨rfl, hR⟩ := h
              refine v_istore (pc := 85) (lv' := [(4, .int (waitsF (sset s 24 t o) v15_4)), (3, .int v15_4), (5, .int (nI j15)), (0, .ref (ad 0)), (1, .int t), (2, .int o)]) O dX5_comesAnew_85 rfl rfl ?_
              refine v_iinc (pc := 87) (y := (nI (j15 + 1))) (lv' := [(5, .int (nI (j15 + 1))), (4, .int (waitsF (sset s 24 t o) v15_4)), (3, .int v15_4), (0, .ref (ad 0)), (1, .int t), (2, .int o)]) O dX5_comesAnew_87 rfl (nI_inc _) rfl rfl ?_
              refine v_goto (pc := 90) O (tgt := 15) dX5_comesAnew_90 (by decide) ?_
              exact v_locs [0, 1, 2, 3, 4, 5] rfl (ih15 (j15 + 1) v15_4 (waitsF (sset s 24 t o) v15_4) _ (by omega) (by omega) (by rw [he15, ring_step hj15lt c_18 c_24]; simp [lessB, sset_f, c_47]) h_a (waitsF_ir (hW.s24 (ir_w h_o))) hR)
            · refine v_aload_n (pc := 50) O dX5_comesAnew_50 rfl ?_
              refine vm_get (pc := 51) O hR 18 rfl q2061 rfl dX5_comesAnew_51 ?_
              refine v_iload (pc := 54) O dX5_comesAnew_54 rfl ?_
              refine vm_iald (pc := 56) O hR 18 rfl rfl h_a (x := (s 18 v15_4)) ((sset_f (by decide)).trans rfl) dX5_comesAnew_56 ?_
              refine v_aload_n (pc := 57) O dX5_comesAnew_57 rfl ?_
              refine vm_get (pc := 58) O hR 18 rfl q2061 rfl dX5_comesAnew_58 ?_
              refine v_iload_n (pc := 61) O dX5_comesAnew_61 rfl ?_
              refine vm_iald (pc := 62) O hR 18 rfl rfl hv (x := (s 18 v15_3)) ((sset_f (by decide)).trans rfl) dX5_comesAnew_62 ?_
              refine v_icmp_ne (pc := 63) (tgt := 77) O dX5_comesAnew_63 (by decide) (fun c_63 => ?_) (fun c_63 => ?_)
              · refine v_iload_n (pc := 77) O dX5_comesAnew_77 rfl ?_
                refine v_istore_n (pc := 78) (lv' := [(3, .int v15_3), (5, .int (nI j15)), (4, .int v15_4), (0, .ref (ad 0)), (1, .int t), (2, .int o)]) O dX5_comesAnew_78 rfl rfl ?_
                refine v_aload_n (pc := 79) O dX5_comesAnew_79 rfl ?_
                refine v_iload (pc := 80) O dX5_comesAnew_80 rfl ?_
                refine v_callVi0 (pc := 82) (nA := 1) O (mm_waitsFor (xL X) Γ ad v15_4 h_a (hW.s24 (ir_w h_o)) hR) hR.1 rfl q2255 q2257 qs35 q71 q2258 (by decide +kernel) rfl rfl rfl rfl (Nat.le_of_ble_eq_true rfl) (Nat.le_refl _) (Nat.le_refl _) dX5_comesAnew_82 (fun x μ h => ?_)
                obtain ⟨rfl, hR⟩ := h
                refine v_istore (pc := 85) (lv' := [(4, .int (waitsF (sset s 24 t o) v15_4)), (3, .int v15_3), (5, .int (nI j15)), (0, .ref (ad 0)), (1, .int t), (2, .int o)]) O dX5_comesAnew_85 rfl rfl ?_
                refine v_iinc (pc := 87) (y := (nI (j15 + 1))) (lv' := [(5, .int (nI (j15 + 1))), (4, .int (waitsF (sset s 24 t o) v15_4)), (3, .int v15_3), (0, .ref (ad 0)), (1, .int t), (2, .int o)]) O dX5_comesAnew_87 rfl (nI_inc _) rfl rfl ?_
                refine v_goto (pc := 90) O (tgt := 15) dX5_comesAnew_90 (by decide) ?_
                exact v_locs [0, 1, 2, 3, 4, 5] rfl (ih15 (j15 + 1) v15_3 (waitsF (sset s 24 t o) v15_4) _ (by omega) (by omega) (by rw [he15, ring_step hj15lt c_18 c_24]; simp [lessB, sset_f, c_47, c_63]) hv (waitsF_ir (hW.s24 (ir_w h_o))) hR)
              · refine v_iload (pc := 66) O dX5_comesAnew_66 rfl ?_
                refine v_iload_n (pc := 68) O dX5_comesAnew_68 rfl ?_
                refine v_icmp_le (pc := 69) (tgt := 77) O dX5_comesAnew_69 (by decide) (fun c_69 => ?_) (fun c_69 => ?_)
                · refine v_iload_n (pc := 77) O dX5_comesAnew_77 rfl ?_
                  refine v_istore_n (pc := 78) (lv' := [(3, .int v15_3), (5, .int (nI j15)), (4, .int v15_4), (0, .ref (ad 0)), (1, .int t), (2, .int o)]) O dX5_comesAnew_78 rfl rfl ?_
                  refine v_aload_n (pc := 79) O dX5_comesAnew_79 rfl ?_
                  refine v_iload (pc := 80) O dX5_comesAnew_80 rfl ?_
                  refine v_callVi0 (pc := 82) (nA := 1) O (mm_waitsFor (xL X) Γ ad v15_4 h_a (hW.s24 (ir_w h_o)) hR) hR.1 rfl q2255 q2257 qs35 q71 q2258 (by decide +kernel) rfl rfl rfl rfl (Nat.le_of_ble_eq_true rfl) (Nat.le_refl _) (Nat.le_refl _) dX5_comesAnew_82 (fun x μ h => ?_)
                  obtain ⟨rfl, hR⟩ := h
                  refine v_istore (pc := 85) (lv' := [(4, .int (waitsF (sset s 24 t o) v15_4)), (3, .int v15_3), (5, .int (nI j15)), (0, .ref (ad 0)), (1, .int t), (2, .int o)]) O dX5_comesAnew_85 rfl rfl ?_
                  refine v_iinc (pc := 87) (y := (nI (j15 + 1))) (lv' := [(5, .int (nI (j15 + 1))), (4, .int (waitsF (sset s 24 t o) v15_4)), (3, .int v15_3), (0, .ref (ad 0)), (1, .int t), (2, .int o)]) O dX5_comesAnew_87 rfl (nI_inc _) rfl rfl ?_
                  refine v_goto (pc := 90) O (tgt := 15) dX5_comesAnew_90 (by decide) ?_
                  exact v_locs [0, 1, 2, 3, 4, 5] rfl (ih15 (j15 + 1) v15_3 (waitsF (sset s 24 t o) v15_4) _ (by omega) (by omega) (by rw [he15, ring_step hj15lt c_18 c_24]; simp [lessB, sset_f, c_47, c_63, c_69]) hv (waitsF_ir (hW.s24 (ir_w h_o))) hR)
                · refine v_iload (pc := 72) O dX5_comesAnew_72 rfl ?_
                  refine v_goto (pc := 74) O (tgt := 78) dX5_comesAnew_74 (by decide) ?_
                  refine v_istore_n (pc := 78) (lv' := [(3, .int v15_4), (5, .int (nI j15)), (4, .int v15_4), (0, .ref (ad 0)), (1, .int t), (2, .int o)]) O dX5_comesAnew_78 rfl rfl ?_
                  refine v_aload_n (pc := 79) O dX5_comesAnew_79 rfl ?_
                  refine v_iload (pc := 80) O dX5_comesAnew_80 rfl ?_
                  refine v_callVi0 (pc := 82) (nA := 1) O (mm_waitsFor (xL X) Γ ad v15_4 h_a (hW.s24 (ir_w h_o)) hR) hR.1 rfl q2255 q2257 qs35 q71 q2258 (by decide +kernel) rfl rfl rfl rfl (Nat.le_of_ble_eq_true rfl) (Nat.le_refl _) (Nat.le_refl _) dX5_comesAnew_82 (fun x μ h => ?_)
                  obtain ⟨rfl, hR⟩ := h
                  refine v_istore (pc := 85) (lv' := [(4, .int (waitsF (sset s 24 t o) v15_4)), (3, .int v15_4), (5, .int (nI j15)), (0, .ref (ad 0)), (1, .int t), (2, .int o)]) O dX5_comesAnew_85 rfl rfl ?_
                  refine v_iinc (pc := 87) (y := (nI (j15 + 1))) (lv' := [(5, .int (nI (j15 + 1))), (4, .int (waitsF (sset s 24 t o) v15_4)), (3, .int v15_4), (0, .ref (ad 0)), (1, .int t), (2, .int o)]) O dX5_comesAnew_87 rfl (nI_inc _) rfl rfl ?_
                  refine v_goto (pc := 90) O (tgt := 15) dX5_comesAnew_90 (by decide) ?_
                  exact v_locs [0, 1, 2, 3, 4, 5] rfl (ih15 (j15 + 1) v15_4 (waitsF (sset s 24 t o) v15_4) _ (by omega) (by omega) (by rw [he15, ring_step hj15lt c_18 c_24]; simp [lessB, sset_f, c_47, c_63, c_69]) h_a (waitsF_ir (hW.s24 (ir_w h_o))) hR)
  exact v_locs [0, 1, 2, 3, 4, 5] rfl (L15 (40 + 1) 0 t o _ (by omega) (by omega) rfl h_t (Or.inr h_o) hR)
set_option maxHeartbeats 4000000 in
theorem mm_abort (l : Launch) (Γ : Gm) (ad : Nat → Nat) (t : Int32) {s : St} {μ0 : Mem} {B : Nat} (hW : WfM B s) (hR : RepM Γ ad s μ0) : MetV l Γ yX5_abort cX5_abort 2 (some .int) 3 0 0 [.ref (ad 0), .int t] μ0 (PI (fun r9 μ1 => r9 = (abortO s t).2 ∧ RepM Γ ad ((abortO s t).1) μ1)) := by
  refine MetV.of (by decide +kernel) rfl ?_
  intro X sz hl hr hnm O
  subst hl
  show V X Γ _ 2 _ 0 0 μ0 0 [(0, .ref (ad 0)), (1, .int t)] []
  refine v_aload_n (pc := 0) O dX5_abort_0 rfl ?_
  refine v_iload_n (pc := 1) O dX5_abort_1 rfl ?_
  refine v_callVi0 (pc := 2) (nA := 1) O (mm_isTransaction (xL X) Γ ad t hR) hR.1 rfl q2292 q2294 qs42 q71 q2295 (by decide +kernel) rfl rfl rfl rfl (Nat.le_of_ble_eq_true rfl) (Nat.le_refl _) (Nat.le_refl _) dX5_abort_2 (fun x μ h => ?_)
  obtain ⟨rfl, hR⟩ := h
  refine v_if_ne_b (pc := 5) (tgt := 10) O dX5_abort_5 (by decide) (fun c_5 => ?_) (fun c_5 => ?_)
  · have hR : RepM Γ ad (sset s 31 0 0) μ := by simpa [c_5, b2i] using hR
    have h_t := tr_ir hW c_5
    refine v_aload_n (pc := 10) O dX5_abort_10 rfl ?_
    refine vm_get (pc := 11) O hR 23 rfl q2066 rfl dX5_abort_11 ?_
    refine v_iload_n (pc := 14) O dX5_abort_14 rfl ?_
    refine vm_iald (pc := 15) O hR 23 rfl rfl h_t (x := (s 23 t)) ((sset_f (by decide)).trans rfl) dX5_abort_15 ?_
    refine v_if_eq (pc := 16) (tgt := 22) O dX5_abort_16 (by decide) (fun c_16 => ?_) (fun c_16 => ?_)
    · refine v_aload_n (pc := 22) O dX5_abort_22 rfl ?_
      refine vm_get (pc := 23) O hR 23 rfl q2066 rfl dX5_abort_23 ?_
      refine v_iload_n (pc := 26) O dX5_abort_26 rfl ?_
      refine v_iconst (pc := 27) O (x := 3) dX5_abort_27 (by decide) ?_
      refine vm_iast (pc := 28) O hR 23 rfl rfl h_t dX5_abort_28 (fun μ hR => ?_)
      refine v_iconst (pc := 29) O (x := 0) dX5_abort_29 (by decide) ?_
      exact v_iret (pc := 30) O hr (Nat.le_refl _) (Nat.le_refl _) dX5_abort_30 ⟨_, rfl, ⟨by simp [abortO, b2i, c_5, c_16], by simpa [abortO, b2i, c_5, c_16] using hR⟩⟩
    · refine v_bipush (pc := 19) O (x := -13) dX5_abort_19 (by decide) ?_
      exact v_iret (pc := 21) O hr (Nat.le_refl _) (Nat.le_refl _) dX5_abort_21 ⟨_, rfl, ⟨by simp [abortO, b2i, c_5, c_16], by simpa [abortO, b2i, c_5, c_16] using hR⟩⟩
  · refine v_iconst (pc := 8) O (x := 0) dX5_abort_8 (by decide) ?_
    exact v_iret (pc := 9) O hr (Nat.le_refl _) (Nat.le_refl _) dX5_abort_9 ⟨_, rfl, ⟨by simp [abortO, b2i, c_5], by simpa [abortO, b2i, c_5] using hR⟩⟩
set_option maxHeartbeats 4000000 in
theorem mm_beat (l : Launch) (Γ : Gm) (ad : Nat → Nat) (t : Int32) {s : St} {μ0 : Mem} {B : Nat} (hW : WfM B s) (hR : RepM Γ ad s μ0) : MetV l Γ yX5_beat cX5_beat 2 (some .int) 3 0 0 [.ref (ad 0), .int t] μ0 (PI (fun r9 μ1 => r9 = (beatO s t).2 ∧ RepM Γ ad ((beatO s t).1) μ1)) := by
  refine MetV.of (by decide +kernel) rfl ?_
  intro X sz hl hr hnm O
  subst hl
  show V X Γ _ 2 _ 0 0 μ0 0 [(0, .ref (ad 0)), (1, .int t)] []
  refine v_aload_n (pc := 0) O dX5_beat_0 rfl ?_
  refine v_iload_n (pc := 1) O dX5_beat_1 rfl ?_
  refine v_callVi0 (pc := 2) (nA := 1) O (mm_isTransaction (xL X) Γ ad t hR) hR.1 rfl q2292 q2294 qs42 q71 q2295 (by decide +kernel) rfl rfl rfl rfl (Nat.le_of_ble_eq_true rfl) (Nat.le_refl _) (Nat.le_refl _) dX5_beat_2 (fun x μ h => ?_)
  obtain ⟨rfl, hR⟩ := h
  refine v_if_ne_b (pc := 5) (tgt := 10) O dX5_beat_5 (by decide) (fun c_5 => ?_) (fun c_5 => ?_)
  · have hR : RepM Γ ad (sset s 31 0 0) μ := by simpa [c_5, b2i] using hR
    have h_t := tr_ir hW c_5
    refine v_aload_n (pc := 10) O dX5_beat_10 rfl ?_
    refine vm_get (pc := 11) O hR 23 rfl q2066 rfl dX5_beat_11 ?_
    refine v_iload_n (pc := 14) O dX5_beat_14 rfl ?_
    refine vm_iald (pc := 15) O hR 23 rfl rfl h_t (x := (s 23 t)) ((sset_f (by decide)).trans rfl) dX5_beat_15 ?_
    refine v_if_eq (pc := 16) (tgt := 22) O dX5_beat_16 (by decide) (fun c_16 => ?_) (fun c_16 => ?_)
    · refine v_aload_n (pc := 22) O dX5_beat_22 rfl ?_
      refine vm_get (pc := 23) O hR 22 rfl q2065 rfl dX5_beat_23 ?_
      refine v_iload_n (pc := 26) O dX5_beat_26 rfl ?_
      refine v_aload_n (pc := 27) O dX5_beat_27 rfl ?_
      refine vm_geti (pc := 28) O hR 0 rfl q2043 (x := (s 0 0)) rfl ((sset_f (by decide)).trans rfl) dX5_beat_28 ?_
      refine vm_iast (pc := 31) O hR 22 rfl rfl h_t dX5_beat_31 (fun μ hR => ?_)
      refine v_iconst (pc := 32) O (x := 0) dX5_beat_32 (by decide) ?_
      exact v_iret (pc := 33) O hr (Nat.le_refl _) (Nat.le_refl _) dX5_beat_33 ⟨_, rfl, ⟨by simp [beatO, b2i, c_5, c_16], by simpa [beatO, b2i, c_5, c_16] using hR⟩⟩
    · refine v_bipush (pc := 19) O (x := -13) dX5_beat_19 (by decide) ?_
      exact v_iret (pc := 21) O hr (Nat.le_refl _) (Nat.le_refl _) dX5_beat_21 ⟨_, rfl, ⟨by simp [beatO, b2i, c_5, c_16], by simpa [beatO, b2i, c_5, c_16] using hR⟩⟩
  · refine v_iconst (pc := 8) O (x := 0) dX5_beat_8 (by decide) ?_
    exact v_iret (pc := 9) O hr (Nat.le_refl _) (Nat.le_refl _) dX5_beat_9 ⟨_, rfl, ⟨by simp [beatO, b2i, c_5], by simpa [beatO, b2i, c_5] using hR⟩⟩
set_option maxHeartbeats 4000000 in
theorem mm_recover (l : Launch) (Γ : Gm) (ad : Nat → Nat) (t : Int32) {s : St} {μ0 : Mem} {B : Nat} (hB : B ≤ 1000) (hW : WfM B s) (hR : RepM Γ ad s μ0) : MetV l Γ yX5_recover cX5_recover 2 (some .int) 3 0 0 [.ref (ad 0), .int t] μ0 (PI (fun r9 μ1 => r9 = (recoverO s t).2 ∧ RepM Γ ad ((recoverO s t).1) μ1)) := by
  refine MetV.of (by decide +kernel) rfl ?_
  intro X sz hl hr hnm O
  subst hl
  show V X Γ _ 2 _ 0 0 μ0 0 [(0, .ref (ad 0)), (1, .int t)] []
  refine v_aload_n (pc := 0) O dX5_recover_0 rfl ?_
  refine v_iload_n (pc := 1) O dX5_recover_1 rfl ?_
  refine v_callVi0 (pc := 2) (nA := 1) O (mm_isTransaction (xL X) Γ ad t hR) hR.1 rfl q2292 q2294 qs42 q71 q2295 (by decide +kernel) rfl rfl rfl rfl (Nat.le_of_ble_eq_true rfl) (Nat.le_refl _) (Nat.le_refl _) dX5_recover_2 (fun x μ h => ?_)
  obtain ⟨rfl, hR⟩ := h
  refine v_if_ne_b (pc := 5) (tgt := 10) O dX5_recover_5 (by decide) (fun c_5 => ?_) (fun c_5 => ?_)
  · have hR : RepM Γ ad (sset s 31 0 0) μ := by simpa [c_5, b2i] using hR
    have h_t := tr_ir hW c_5
    have hn := ir_n1 h_t
    refine v_aload_n (pc := 10) O dX5_recover_10 rfl ?_
    refine vm_get (pc := 11) O hR 23 rfl q2066 rfl dX5_recover_11 ?_
    refine v_iload_n (pc := 14) O dX5_recover_14 rfl ?_
    refine vm_iald (pc := 15) O hR 23 rfl rfl h_t (x := (s 23 t)) ((sset_f (by decide)).trans rfl) dX5_recover_15 ?_
    refine v_iconst (pc := 16) O (x := 1) dX5_recover_16 (by decide) ?_
    refine v_icmp_ne (pc := 17) (tgt := 25) O dX5_recover_17 (by decide) (fun c_17 => ?_) (fun c_17 => ?_)
    · refine v_aload_n (pc := 25) O dX5_recover_25 rfl ?_
      refine vm_get (pc := 26) O hR 23 rfl q2066 rfl dX5_recover_26 ?_
      refine v_iload_n (pc := 29) O dX5_recover_29 rfl ?_
      refine vm_iald (pc := 30) O hR 23 rfl rfl h_t (x := (s 23 t)) ((sset_f (by decide)).trans rfl) dX5_recover_30 ?_
      exact v_iret (pc := 31) O hr (Nat.le_refl _) (Nat.le_refl _) dX5_recover_31 ⟨_, rfl, ⟨by simp [recoverO, meetsS1, b2i, sset_f, c_5, c_17], by simpa [recoverO, meetsS1, b2i, sset_f, c_5, c_17] using hR⟩⟩
    · refine v_aload_n (pc := 20) O dX5_recover_20 rfl ?_
      refine v_iload_n (pc := 21) O dX5_recover_21 rfl ?_
      refine v_callVv0 (pc := 22) (nA := 1) O (mm_recovers (xL X) Γ ad t hB hn h_t (WfM.oth hW (by decide)) hR) hR.1 rfl q2235 q2237 qs30 q71 q2238 (by decide +kernel) rfl rfl rfl rfl (Nat.le_of_ble_eq_true rfl) (Nat.le_refl _) (Nat.le_refl _) dX5_recover_22 (fun μ hR => ?_)
      refine v_aload_n (pc := 25) O dX5_recover_25 rfl ?_
      refine vm_get (pc := 26) O hR 23 rfl q2066 rfl dX5_recover_26 ?_
      refine v_iload_n (pc := 29) O dX5_recover_29 rfl ?_
      refine vm_iald (pc := 30) O hR 23 rfl rfl h_t (x := ((recoversS (sset s 31 0 0) t) 23 t)) rfl dX5_recover_30 ?_
      exact v_iret (pc := 31) O hr (Nat.le_refl _) (Nat.le_refl _) dX5_recover_31 ⟨_, rfl, ⟨by simp [recoverO, meetsS1, b2i, sset_f, c_5, c_17], by simpa [recoverO, meetsS1, b2i, sset_f, c_5, c_17] using hR⟩⟩
  · refine v_iconst (pc := 8) O (x := 0) dX5_recover_8 (by decide) ?_
    exact v_iret (pc := 9) O hr (Nat.le_refl _) (Nat.le_refl _) dX5_recover_9 ⟨_, rfl, ⟨by simp [recoverO, meetsS1, b2i, sset_f, c_5], by simpa [recoverO, meetsS1, b2i, sset_f, c_5] using hR⟩⟩
set_option maxHeartbeats 4000000 in
theorem mm_counts28 (l : Launch) (Γ : Gm) (ad : Nat → Nat) (t : Int32) {s : St} {μ0 : Mem} (h_t : ir t (nI 40)) (hR : RepM Γ ad s μ0) : MetV l Γ yX5_counts cX5_counts 5 (some .int) 1 0 0 [.ref (ad 0), .int t, .ref (ad 28)] μ0 (PI (fun r9 μ1 => r9 = (countsF s 28 t) ∧ RepM Γ ad s μ1)) := by
  refine MetV.of (by decide +kernel) rfl ?_
  intro X sz hl hr hnm O
  subst hl
  show V X Γ _ 5 _ 0 0 μ0 0 [(0, .ref (ad 0)), (1, .int t), (2, .ref (ad 28))] []
  refine v_iconst (pc := 0) O (x := 0) dX5_counts_0 (by decide) ?_
  refine v_istore_n (pc := 1) (lv' := [(3, .int 0), (0, .ref (ad 0)), (1, .int t), (2, .ref (ad 28))]) O dX5_counts_1 rfl rfl ?_
  refine v_iconst (pc := 2) O (x := 0) dX5_counts_2 (by decide) ?_
  refine v_istore (pc := 3) (lv' := [(4, .int 0), (3, .int 0), (0, .ref (ad 0)), (1, .int t), (2, .ref (ad 28))]) O dX5_counts_3 rfl rfl ?_
  have L5 : ∀ (d5 j5 : Nat) (v5_3 : Int32) (μ : Mem), 32 < d5 + j5 → j5 ≤ 32 → v5_3 = iter (cntStep s 28 t) j5 0 → RepM Γ ad s μ → V X Γ (gA μ0 sz) 5 (QV X Γ μ0 sz (PI (fun r9 μ1 => r9 = (countsF s 28 t) ∧ RepM Γ ad s μ1)) 0 0) 0 0 μ 5 [(4, .int (nI j5)), (3, .int v5_3), (0, .ref (ad 0)), (1, .int t), (2, .ref (ad 28))] [] := by
    intro d5
    induction d5 with
    | zero => intro j5 v5_3 μ h1 h2; exact absurd h1 (by omega)
    | succ d5 ih5 =>
      intro j5 v5_3 μ hd hj5 he5  hR
      refine v_iload (pc := 5) O dX5_counts_5 rfl ?_
      refine v_bipush (pc := 7) O (x := 32) dX5_counts_7 (by decide) ?_
      refine v_icmp_ge (pc := 9) (tgt := 39) O dX5_counts_9 (by decide) (fun c_9 => ?_) (fun c_9 => ?_)
      · have hx5 := lp_out rfl (by decide) hj5 c_9
        subst hx5
        refine v_iload_n (pc := 39) O dX5_counts_39 rfl ?_
        exact v_iret (pc := 40) O hr (Nat.le_refl _) (Nat.le_refl _) dX5_counts_40 ⟨_, rfl, ⟨by simp [countsF, c_9, ← he5], by simpa [countsF, c_9, ← he5] using hR⟩⟩
      · have hj5lt := lp_in rfl (by decide) hj5 c_9
        refine v_iload_n (pc := 12) O dX5_counts_12 rfl ?_
        refine v_aload_n (pc := 13) O dX5_counts_13 rfl ?_
        refine v_bipush (pc := 14) O (x := 32) dX5_counts_14 (by decide) ?_
        refine v_iload_n (pc := 16) O dX5_counts_16 rfl ?_
        refine v_imul (pc := 17) O dX5_counts_17 ?_
        refine v_iload (pc := 18) O dX5_counts_18 rfl ?_
        refine v_iadd (pc := 20) O dX5_counts_20 ?_
        refine vm_iald (pc := 21) O hR 28 rfl rfl (ir_32 h_t hj5lt) (x := (s 28 ((32 * t) + (nI j5)))) rfl dX5_counts_21 ?_
        refine v_iconst (pc := 22) O (x := -1) dX5_counts_22 (by decide) ?_
        refine v_icmp_eq (pc := 23) (tgt := 30) O dX5_counts_23 (by decide) (fun c_23 => ?_) (fun c_23 => ?_)
        · refine v_iconst (pc := 30) O (x := 0) dX5_counts_30 (by decide) ?_
          refine v_iadd (pc := 31) O dX5_counts_31 ?_
          refine v_istore_n (pc := 32) (lv' := [(3, .int (v5_3 + 0)), (4, .int (nI j5)), (0, .ref (ad 0)), (1, .int t), (2, .ref (ad 28))]) O dX5_counts_32 rfl rfl ?_
          refine v_iinc (pc := 33) (y := (nI (j5 + 1))) (lv' := [(4, .int (nI (j5 + 1))), (3, .int (v5_3 + 0)), (0, .ref (ad 0)), (1, .int t), (2, .ref (ad 28))]) O dX5_counts_33 rfl (nI_inc _) rfl rfl ?_
          refine v_goto (pc := 36) O (tgt := 5) dX5_counts_36 (by decide) ?_
          exact v_locs [0, 1, 2, 3, 4] rfl (ih5 (j5 + 1) (v5_3 + 0) _ (by omega) (by omega) (by rw [iter_s, ← he5]; simp [cntStep, c_9, c_23])  hR)
        · refine v_iconst (pc := 26) O (x := 1) dX5_counts_26 (by decide) ?_
          refine v_goto (pc := 27) O (tgt := 31) dX5_counts_27 (by decide) ?_
          refine v_iadd (pc := 31) O dX5_counts_31 ?_
          refine v_istore_n (pc := 32) (lv' := [(3, .int (v5_3 + 1)), (4, .int (nI j5)), (0, .ref (ad 0)), (1, .int t), (2, .ref (ad 28))]) O dX5_counts_32 rfl rfl ?_
          refine v_iinc (pc := 33) (y := (nI (j5 + 1))) (lv' := [(4, .int (nI (j5 + 1))), (3, .int (v5_3 + 1)), (0, .ref (ad 0)), (1, .int t), (2, .ref (ad 28))]) O dX5_counts_33 rfl (nI_inc _) rfl rfl ?_
          refine v_goto (pc := 36) O (tgt := 5) dX5_counts_36 (by decide) ?_
          exact v_locs [0, 1, 2, 3, 4] rfl (ih5 (j5 + 1) (v5_3 + 1) _ (by omega) (by omega) (by rw [iter_s, ← he5]; simp [cntStep, c_9, c_23])  hR)
  exact v_locs [0, 1, 2, 3, 4] rfl (L5 (32 + 1) 0 0 _ (by omega) (by omega) iter_0.symm  hR)
set_option maxHeartbeats 4000000 in
theorem mm_counts29 (l : Launch) (Γ : Gm) (ad : Nat → Nat) (t : Int32) {s : St} {μ0 : Mem} (h_t : ir t (nI 40)) (hR : RepM Γ ad s μ0) : MetV l Γ yX5_counts cX5_counts 5 (some .int) 1 0 0 [.ref (ad 0), .int t, .ref (ad 29)] μ0 (PI (fun r9 μ1 => r9 = (countsF s 29 t) ∧ RepM Γ ad s μ1)) := by
  refine MetV.of (by decide +kernel) rfl ?_
  intro X sz hl hr hnm O
  subst hl
  show V X Γ _ 5 _ 0 0 μ0 0 [(0, .ref (ad 0)), (1, .int t), (2, .ref (ad 29))] []
  refine v_iconst (pc := 0) O (x := 0) dX5_counts_0 (by decide) ?_
  refine v_istore_n (pc := 1) (lv' := [(3, .int 0), (0, .ref (ad 0)), (1, .int t), (2, .ref (ad 29))]) O dX5_counts_1 rfl rfl ?_
  refine v_iconst (pc := 2) O (x := 0) dX5_counts_2 (by decide) ?_
  refine v_istore (pc := 3) (lv' := [(4, .int 0), (3, .int 0), (0, .ref (ad 0)), (1, .int t), (2, .ref (ad 29))]) O dX5_counts_3 rfl rfl ?_
  have L5 : ∀ (d5 j5 : Nat) (v5_3 : Int32) (μ : Mem), 32 < d5 + j5 → j5 ≤ 32 → v5_3 = iter (cntStep s 29 t) j5 0 → RepM Γ ad s μ → V X Γ (gA μ0 sz) 5 (QV X Γ μ0 sz (PI (fun r9 μ1 => r9 = (countsF s 29 t) ∧ RepM Γ ad s μ1)) 0 0) 0 0 μ 5 [(4, .int (nI j5)), (3, .int v5_3), (0, .ref (ad 0)), (1, .int t), (2, .ref (ad 29))] [] := by
    intro d5
    induction d5 with
    | zero => intro j5 v5_3 μ h1 h2; exact absurd h1 (by omega)
    | succ d5 ih5 =>
      intro j5 v5_3 μ hd hj5 he5  hR
      refine v_iload (pc := 5) O dX5_counts_5 rfl ?_
      refine v_bipush (pc := 7) O (x := 32) dX5_counts_7 (by decide) ?_
      refine v_icmp_ge (pc := 9) (tgt := 39) O dX5_counts_9 (by decide) (fun c_9 => ?_) (fun c_9 => ?_)
      · have hx5 := lp_out rfl (by decide) hj5 c_9
        subst hx5
        refine v_iload_n (pc := 39) O dX5_counts_39 rfl ?_
        exact v_iret (pc := 40) O hr (Nat.le_refl _) (Nat.le_refl _) dX5_counts_40 ⟨_, rfl, ⟨by simp [countsF, c_9, ← he5], by simpa [countsF, c_9, ← he5] using hR⟩⟩
      · have hj5lt := lp_in rfl (by decide) hj5 c_9
        refine v_iload_n (pc := 12) O dX5_counts_12 rfl ?_
        refine v_aload_n (pc := 13) O dX5_counts_13 rfl ?_
        refine v_bipush (pc := 14) O (x := 32) dX5_counts_14 (by decide) ?_
        refine v_iload_n (pc := 16) O dX5_counts_16 rfl ?_
        refine v_imul (pc := 17) O dX5_counts_17 ?_
        refine v_iload (pc := 18) O dX5_counts_18 rfl ?_
        refine v_iadd (pc := 20) O dX5_counts_20 ?_
        refine vm_iald (pc := 21) O hR 29 rfl rfl (ir_32 h_t hj5lt) (x := (s 29 ((32 * t) + (nI j5)))) rfl dX5_counts_21 ?_
        refine v_iconst (pc := 22) O (x := -1) dX5_counts_22 (by decide) ?_
        refine v_icmp_eq (pc := 23) (tgt := 30) O dX5_counts_23 (by decide) (fun c_23 => ?_) (fun c_23 => ?_)
        · refine v_iconst (pc := 30) O (x := 0) dX5_counts_30 (by decide) ?_
          refine v_iadd (pc := 31) O dX5_counts_31 ?_
          refine v_istore_n (pc := 32) (lv' := [(3, .int (v5_3 + 0)), (4, .int (nI j5)), (0, .ref (ad 0)), (1, .int t), (2, .ref (ad 29))]) O dX5_counts_32 rfl rfl ?_
          refine v_iinc (pc := 33) (y := (nI (j5 + 1))) (lv' := [(4, .int (nI (j5 + 1))), (3, .int (v5_3 + 0)), (0, .ref (ad 0)), (1, .int t), (2, .ref (ad 29))]) O dX5_counts_33 rfl (nI_inc _) rfl rfl ?_
          refine v_goto (pc := 36) O (tgt := 5) dX5_counts_36 (by decide) ?_
          exact v_locs [0, 1, 2, 3, 4] rfl (ih5 (j5 + 1) (v5_3 + 0) _ (by omega) (by omega) (by rw [iter_s, ← he5]; simp [cntStep, c_9, c_23])  hR)
        · refine v_iconst (pc := 26) O (x := 1) dX5_counts_26 (by decide) ?_
          refine v_goto (pc := 27) O (tgt := 31) dX5_counts_27 (by decide) ?_
          refine v_iadd (pc := 31) O dX5_counts_31 ?_
          refine v_istore_n (pc := 32) (lv' := [(3, .int (v5_3 + 1)), (4, .int (nI j5)), (0, .ref (ad 0)), (1, .int t), (2, .ref (ad 29))]) O dX5_counts_32 rfl rfl ?_
          refine v_iinc (pc := 33) (y := (nI (j5 + 1))) (lv' := [(4, .int (nI (j5 + 1))), (3, .int (v5_3 + 1)), (0, .ref (ad 0)), (1, .int t), (2, .ref (ad 29))]) O dX5_counts_33 rfl (nI_inc _) rfl rfl ?_
          refine v_goto (pc := 36) O (tgt := 5) dX5_counts_36 (by decide) ?_
          exact v_locs [0, 1, 2, 3, 4] rfl (ih5 (j5 + 1) (v5_3 + 1) _ (by omega) (by omega) (by rw [iter_s, ← he5]; simp [cntStep, c_9, c_23])  hR)
  exact v_locs [0, 1, 2, 3, 4] rfl (L5 (32 + 1) 0 0 _ (by omega) (by omega) iter_0.symm  hR)
set_option maxHeartbeats 4000000 in
theorem mm_told (l : Launch) (Γ : Gm) (ad : Nat → Nat) (t w : Int32) {s : St} {μ0 : Mem} {B : Nat} (hB : B ≤ 1000) (hW : WfM B s) (hR : RepM Γ ad s μ0) : MetV l Γ yX5_told cX5_told 4 (some .int) 3 0 0 [.ref (ad 0), .int t, .int w] μ0 (PI (fun r9 μ1 => r9 = (toldO s t w).2 ∧ RepM Γ ad ((toldO s t w).1) μ1)) := by
  refine MetV.of (by decide +kernel) rfl ?_
  intro X sz hl hr hnm O
  subst hl
  show V X Γ _ 4 _ 0 0 μ0 0 [(0, .ref (ad 0)), (1, .int t), (2, .int w)] []
  refine v_aload_n (pc := 0) O dX5_told_0 rfl ?_
  refine v_iload_n (pc := 1) O dX5_told_1 rfl ?_
  refine v_iconst (pc := 2) O (x := 0) dX5_told_2 (by decide) ?_
  refine v_aload_n (pc := 3) O dX5_told_3 rfl ?_
  refine vm_geti (pc := 4) O hR 16 rfl q2059 (x := (s 16 0)) rfl rfl dX5_told_4 ?_
  refine v_iconst (pc := 7) O (x := 1) dX5_told_7 (by decide) ?_
  refine v_isub (pc := 8) O dX5_told_8 ?_
  refine v_callSi0 (pc := 9) (nA := 3) O (mm_in (xL X) Γ t 0 ((s 16 0) - 1) _) q2149 q2150 q71 q2151 (by decide +kernel) rfl rfl rfl rfl (Nat.le_of_ble_eq_true rfl) (Nat.le_refl _) (Nat.le_refl _) dX5_told_9 (fun x μ1 h => ?_)
  obtain ⟨rfl, rfl⟩ := h
  refine v_if_ne_b (pc := 12) (tgt := 19) O dX5_told_12 (by decide) (fun c_12 => ?_) (fun c_12 => ?_)
  · have h_t := tr_ir hW c_12
    refine v_iload_n (pc := 19) O dX5_told_19 rfl ?_
    refine v_iconst (pc := 20) O (x := 0) dX5_told_20 (by decide) ?_
    refine v_bipush (pc := 21) O (x := 6) dX5_told_21 (by decide) ?_
    refine v_callSi0 (pc := 23) (nA := 3) O (mm_in (xL X) Γ w 0 6 _) q2149 q2150 q71 q2151 (by decide +kernel) rfl rfl rfl rfl (Nat.le_of_ble_eq_true rfl) (Nat.le_refl _) (Nat.le_refl _) dX5_told_23 (fun x μ1 h => ?_)
    obtain ⟨rfl, rfl⟩ := h
    refine v_if_ne_b (pc := 26) (tgt := 33) O dX5_told_26 (by decide) (fun c_26 => ?_) (fun c_26 => ?_)
    · refine v_iconst (pc := 33) O (x := 0) dX5_told_33 (by decide) ?_
      refine vm_put (pc := 34) O hR 31 (by decide) q2074 dX5_told_34 (fun μ hR => ?_)
      refine v_aload_n (pc := 37) O dX5_told_37 rfl ?_
      refine vm_geti (pc := 38) O hR 31 rfl q2074 (x := 0) rfl sset_eq dX5_told_38 ?_
      refine v_if_le (pc := 41) (tgt := 46) O dX5_told_41 (by decide) (fun _ => ?_) (fun c => absurd (by decide) c)
      refine v_iload_n (pc := 46) O dX5_told_46 rfl ?_
      refine v_istore_n (pc := 47) (lv' := [(3, .int t), (0, .ref (ad 0)), (1, .int t), (2, .int w)]) O dX5_told_47 rfl rfl ?_
      refine v_iload_n (pc := 48) O dX5_told_48 rfl ?_
      refine v_if_ne (pc := 49) (tgt := 61) O dX5_told_49 (by decide) (fun c_49 => ?_) (fun c_49 => ?_)
      · refine v_iload_n (pc := 61) O dX5_told_61 rfl ?_
        refine v_iconst (pc := 62) O (x := 1) dX5_told_62 (by decide) ?_
        refine v_icmp_ne (pc := 63) (tgt := 75) O dX5_told_63 (by decide) (fun c_63 => ?_) (fun c_63 => ?_)
        · refine v_iload_n (pc := 75) O dX5_told_75 rfl ?_
          refine v_iconst (pc := 76) O (x := 2) dX5_told_76 (by decide) ?_
          refine v_icmp_ne (pc := 77) (tgt := 89) O dX5_told_77 (by decide) (fun c_77 => ?_) (fun c_77 => ?_)
          · refine v_iload_n (pc := 89) O dX5_told_89 rfl ?_
            refine v_iconst (pc := 90) O (x := 3) dX5_told_90 (by decide) ?_
            refine v_icmp_ne (pc := 91) (tgt := 102) O dX5_told_91 (by decide) (fun c_91 => ?_) (fun c_91 => ?_)
            · refine v_iload_n (pc := 102) O dX5_told_102 rfl ?_
              refine v_iconst (pc := 103) O (x := 4) dX5_told_103 (by decide) ?_
              refine v_icmp_ne (pc := 104) (tgt := 119) O dX5_told_104 (by decide) (fun c_104 => ?_) (fun c_104 => ?_)
              · refine v_iload_n (pc := 119) O dX5_told_119 rfl ?_
                refine v_iconst (pc := 120) O (x := 5) dX5_told_120 (by decide) ?_
                refine v_icmp_ne (pc := 121) (tgt := 136) O dX5_told_121 (by decide) (fun c_121 => ?_) (fun c_121 => ?_)
                · refine v_aload_n (pc := 136) O dX5_told_136 rfl ?_
                  refine v_iload_n (pc := 137) O dX5_told_137 rfl ?_
                  refine v_callVi0 (pc := 138) (nA := 1) O (mm_isVanished (xL X) Γ ad t h_t hR) hR.1 rfl q2247 q2249 qs33 q71 q2250 (by decide +kernel) rfl rfl rfl rfl (Nat.le_of_ble_eq_true rfl) (Nat.le_refl _) (Nat.le_refl _) dX5_told_138 (fun x μ h => ?_)
                  obtain ⟨hx, hR⟩ := h
                  rw [van_oth (by decide) (by decide) (by decide)] at hx
                  subst hx
                  refine v_if_eq_b (pc := 141) (tgt := 148) O dX5_told_141 (by decide) (fun c_141 => ?_) (fun c_141 => ?_)
                  · refine v_iconst (pc := 148) O (x := 0) dX5_told_148 (by decide) ?_
                    exact v_iret (pc := 149) O hr (Nat.le_refl _) (Nat.le_refl _) dX5_told_149 ⟨_, rfl, ⟨by simp [toldO, toldF, b2i, c_12, c_26, c_49, c_63, c_77, c_91, c_104, c_121, c_141], by simpa [toldO, toldF, b2i, c_12, c_26, c_49, c_63, c_77, c_91, c_104, c_121, c_141] using hR⟩⟩
                  · refine v_iconst (pc := 144) O (x := 1) dX5_told_144 (by decide) ?_
                    refine v_goto (pc := 145) O (tgt := 149) dX5_told_145 (by decide) ?_
                    exact v_iret (pc := 149) O hr (Nat.le_refl _) (Nat.le_refl _) dX5_told_149 ⟨_, rfl, ⟨by simp [toldO, toldF, b2i, c_12, c_26, c_49, c_63, c_77, c_91, c_104, c_121, c_141], by simpa [toldO, toldF, b2i, c_12, c_26, c_49, c_63, c_77, c_91, c_104, c_121, c_141] using hR⟩⟩
                · refine v_aload_n (pc := 124) O dX5_told_124 rfl ?_
                  refine v_iload_n (pc := 125) O dX5_told_125 rfl ?_
                  refine v_aload_n (pc := 126) O dX5_told_126 rfl ?_
                  refine vm_get (pc := 127) O hR 29 rfl q2072 rfl dX5_told_127 ?_
                  refine v_callVi0 (pc := 130) (nA := 2) O (mm_counts29 (xL X) Γ ad t h_t hR) hR.1 rfl q2296 q2298 qs43 q71 q2299 (by decide +kernel) rfl rfl rfl rfl (Nat.le_of_ble_eq_true rfl) (Nat.le_refl _) (Nat.le_refl _) dX5_told_130 (fun x μ h => ?_)
                  obtain ⟨hx, hR⟩ := h
                  rw [cnt29_oth (by decide)] at hx
                  subst hx
                  refine v_goto (pc := 133) O (tgt := 149) dX5_told_133 (by decide) ?_
                  exact v_iret (pc := 149) O hr (Nat.le_refl _) (Nat.le_refl _) dX5_told_149 ⟨_, rfl, ⟨by simp [toldO, toldF, b2i, c_12, c_26, c_49, c_63, c_77, c_91, c_104, c_121, (show inB 5 0 6 = true by decide)], by simpa [toldO, toldF, b2i, c_12, c_26, c_49, c_63, c_77, c_91, c_104, c_121, (show inB 5 0 6 = true by decide)] using hR⟩⟩
              · refine v_aload_n (pc := 107) O dX5_told_107 rfl ?_
                refine v_iload_n (pc := 108) O dX5_told_108 rfl ?_
                refine v_aload_n (pc := 109) O dX5_told_109 rfl ?_
                refine vm_get (pc := 110) O hR 28 rfl q2071 rfl dX5_told_110 ?_
                refine v_callVi0 (pc := 113) (nA := 2) O (mm_counts28 (xL X) Γ ad t h_t hR) hR.1 rfl q2296 q2298 qs43 q71 q2299 (by decide +kernel) rfl rfl rfl rfl (Nat.le_of_ble_eq_true rfl) (Nat.le_refl _) (Nat.le_refl _) dX5_told_113 (fun x μ h => ?_)
                obtain ⟨hx, hR⟩ := h
                rw [cnt28_oth (by decide)] at hx
                subst hx
                refine v_goto (pc := 116) O (tgt := 149) dX5_told_116 (by decide) ?_
                exact v_iret (pc := 149) O hr (Nat.le_refl _) (Nat.le_refl _) dX5_told_149 ⟨_, rfl, ⟨by simp [toldO, toldF, b2i, c_12, c_26, c_49, c_63, c_77, c_91, c_104, (show inB 4 0 6 = true by decide)], by simpa [toldO, toldF, b2i, c_12, c_26, c_49, c_63, c_77, c_91, c_104, (show inB 4 0 6 = true by decide)] using hR⟩⟩
            · refine v_aload_n (pc := 94) O dX5_told_94 rfl ?_
              refine v_iload_n (pc := 95) O dX5_told_95 rfl ?_
              refine v_callVi0 (pc := 96) (nA := 1) O (mm_waitsFor (xL X) Γ ad t h_t (WfM.oth hW (by decide)) hR) hR.1 rfl q2255 q2257 qs35 q71 q2258 (by decide +kernel) rfl rfl rfl rfl (Nat.le_of_ble_eq_true rfl) (Nat.le_refl _) (Nat.le_refl _) dX5_told_96 (fun x μ h => ?_)
              obtain ⟨hx, hR⟩ := h
              rw [waits_oth (by decide) (by decide)] at hx
              subst hx
              refine v_goto (pc := 99) O (tgt := 149) dX5_told_99 (by decide) ?_
              exact v_iret (pc := 149) O hr (Nat.le_refl _) (Nat.le_refl _) dX5_told_149 ⟨_, rfl, ⟨by simp [toldO, toldF, b2i, c_12, c_26, c_49, c_63, c_77, c_91, (show inB 3 0 6 = true by decide)], by simpa [toldO, toldF, b2i, c_12, c_26, c_49, c_63, c_77, c_91, (show inB 3 0 6 = true by decide)] using hR⟩⟩
          · refine v_aload_n (pc := 80) O dX5_told_80 rfl ?_
            refine vm_get (pc := 81) O hR 20 rfl q2063 rfl dX5_told_81 ?_
            refine v_iload_n (pc := 84) O dX5_told_84 rfl ?_
            refine vm_iald (pc := 85) O hR 20 rfl rfl h_t (x := (s 20 t)) ((sset_f (by decide)).trans rfl) dX5_told_85 ?_
            refine v_goto (pc := 86) O (tgt := 149) dX5_told_86 (by decide) ?_
            exact v_iret (pc := 149) O hr (Nat.le_refl _) (Nat.le_refl _) dX5_told_149 ⟨_, rfl, ⟨by simp [toldO, toldF, b2i, c_12, c_26, c_49, c_63, c_77, (show inB 2 0 6 = true by decide)], by simpa [toldO, toldF, b2i, c_12, c_26, c_49, c_63, c_77, (show inB 2 0 6 = true by decide)] using hR⟩⟩
        · refine v_aload_n (pc := 66) O dX5_told_66 rfl ?_
          refine vm_get (pc := 67) O hR 19 rfl q2062 rfl dX5_told_67 ?_
          refine v_iload_n (pc := 70) O dX5_told_70 rfl ?_
          refine vm_iald (pc := 71) O hR 19 rfl rfl h_t (x := (s 19 t)) ((sset_f (by decide)).trans rfl) dX5_told_71 ?_
          refine v_goto (pc := 72) O (tgt := 149) dX5_told_72 (by decide) ?_
          exact v_iret (pc := 149) O hr (Nat.le_refl _) (Nat.le_refl _) dX5_told_149 ⟨_, rfl, ⟨by simp [toldO, toldF, b2i, c_12, c_26, c_49, c_63, (show inB 1 0 6 = true by decide)], by simpa [toldO, toldF, b2i, c_12, c_26, c_49, c_63, (show inB 1 0 6 = true by decide)] using hR⟩⟩
      · refine v_aload_n (pc := 52) O dX5_told_52 rfl ?_
        refine vm_get (pc := 53) O hR 23 rfl q2066 rfl dX5_told_53 ?_
        refine v_iload_n (pc := 56) O dX5_told_56 rfl ?_
        refine vm_iald (pc := 57) O hR 23 rfl rfl h_t (x := (s 23 t)) ((sset_f (by decide)).trans rfl) dX5_told_57 ?_
        refine v_goto (pc := 58) O (tgt := 149) dX5_told_58 (by decide) ?_
        exact v_iret (pc := 149) O hr (Nat.le_refl _) (Nat.le_refl _) dX5_told_149 ⟨_, rfl, ⟨by simp [toldO, toldF, b2i, c_12, c_26, c_49, (show inB 0 0 6 = true by decide)], by simpa [toldO, toldF, b2i, c_12, c_26, c_49, (show inB 0 0 6 = true by decide)] using hR⟩⟩
    · refine v_iconst (pc := 29) O (x := 2) dX5_told_29 (by decide) ?_
      refine v_goto (pc := 30) O (tgt := 34) dX5_told_30 (by decide) ?_
      refine vm_put (pc := 34) O hR 31 (by decide) q2074 dX5_told_34 (fun μ hR => ?_)
      refine v_aload_n (pc := 37) O dX5_told_37 rfl ?_
      refine vm_geti (pc := 38) O hR 31 rfl q2074 (x := 2) rfl sset_eq dX5_told_38 ?_
      refine v_if_le (pc := 41) (tgt := 46) O dX5_told_41 (by decide) (fun c => absurd c (by decide)) (fun _ => ?_)
      refine v_iconst (pc := 44) O (x := 0) dX5_told_44 (by decide) ?_
      exact v_iret (pc := 45) O hr (Nat.le_refl _) (Nat.le_refl _) dX5_told_45 ⟨_, rfl, ⟨by simp [toldO, toldF, b2i, c_12, c_26], by simpa [toldO, toldF, b2i, c_12, c_26] using hR⟩⟩
  · refine v_iconst (pc := 15) O (x := 1) dX5_told_15 (by decide) ?_
    refine v_goto (pc := 16) O (tgt := 34) dX5_told_16 (by decide) ?_
    refine vm_put (pc := 34) O hR 31 (by decide) q2074 dX5_told_34 (fun μ hR => ?_)
    refine v_aload_n (pc := 37) O dX5_told_37 rfl ?_
    refine vm_geti (pc := 38) O hR 31 rfl q2074 (x := 1) rfl sset_eq dX5_told_38 ?_
    refine v_if_le (pc := 41) (tgt := 46) O dX5_told_41 (by decide) (fun c => absurd c (by decide)) (fun _ => ?_)
    refine v_iconst (pc := 44) O (x := 0) dX5_told_44 (by decide) ?_
    exact v_iret (pc := 45) O hr (Nat.le_refl _) (Nat.le_refl _) dX5_told_45 ⟨_, rfl, ⟨by simp [toldO, toldF, b2i, c_12], by simpa [toldO, toldF, b2i, c_12] using hR⟩⟩
set_option maxHeartbeats 4000000 in
theorem mm_key (l : Launch) (Γ : Gm) (ad : Nat → Nat) (k w : Int32) {s : St} {μ0 : Mem} {B : Nat} (hB : B ≤ 1000) (hW : WfM B s) (hR : RepM Γ ad s μ0) : MetV l Γ yX5_key cX5_key 5 (some .int) 3 0 0 [.ref (ad 0), .int k, .int w] μ0 (PI (fun r9 μ1 => r9 = (keyO s k w).2 ∧ RepM Γ ad ((keyO s k w).1) μ1)) := by
  refine MetV.of (by decide +kernel) rfl ?_
  intro X sz hl hr hnm O
  subst hl
  show V X Γ _ 5 _ 0 0 μ0 0 [(0, .ref (ad 0)), (1, .int k), (2, .int w)] []
  refine v_aload_n (pc := 0) O dX5_key_0 rfl ?_
  refine v_iload_n (pc := 1) O dX5_key_1 rfl ?_
  refine v_iconst (pc := 2) O (x := 0) dX5_key_2 (by decide) ?_
  refine v_bipush (pc := 3) O (x := 31) dX5_key_3 (by decide) ?_
  refine v_callSi0 (pc := 5) (nA := 3) O (mm_in (xL X) Γ k 0 31 _) q2149 q2150 q71 q2151 (by decide +kernel) rfl rfl rfl rfl (Nat.le_of_ble_eq_true rfl) (Nat.le_refl _) (Nat.le_refl _) dX5_key_5 (fun x μ1 h => ?_)
  obtain ⟨rfl, rfl⟩ := h
  refine v_if_ne_b (pc := 8) (tgt := 15) O dX5_key_8 (by decide) (fun c_8 => ?_) (fun c_8 => ?_)
  · have h_k : ir k (nI 32) := ir_of (hi := 31) (by decide) (by decide) (by decide) c_8
    refine v_iload_n (pc := 15) O dX5_key_15 rfl ?_
    refine v_iconst (pc := 16) O (x := 0) dX5_key_16 (by decide) ?_
    refine v_bipush (pc := 17) O (x := 6) dX5_key_17 (by decide) ?_
    refine v_callSi0 (pc := 19) (nA := 3) O (mm_in (xL X) Γ w 0 6 _) q2149 q2150 q71 q2151 (by decide +kernel) rfl rfl rfl rfl (Nat.le_of_ble_eq_true rfl) (Nat.le_refl _) (Nat.le_refl _) dX5_key_19 (fun x μ1 h => ?_)
    obtain ⟨rfl, rfl⟩ := h
    refine v_if_ne_b (pc := 22) (tgt := 29) O dX5_key_22 (by decide) (fun c_22 => ?_) (fun c_22 => ?_)
    · refine v_iconst (pc := 29) O (x := 0) dX5_key_29 (by decide) ?_
      refine vm_put (pc := 30) O hR 31 (by decide) q2074 dX5_key_30 (fun μ hR => ?_)
      refine v_aload_n (pc := 33) O dX5_key_33 rfl ?_
      refine vm_geti (pc := 34) O hR 31 rfl q2074 (x := 0) rfl sset_eq dX5_key_34 ?_
      refine v_if_le (pc := 37) (tgt := 42) O dX5_key_37 (by decide) (fun _ => ?_) (fun c => absurd (by decide) c)
      refine v_iconst (pc := 42) O (x := 0) dX5_key_42 (by decide) ?_
      refine v_istore_n (pc := 43) (lv' := [(3, .int 0), (0, .ref (ad 0)), (1, .int k), (2, .int w)]) O dX5_key_43 rfl rfl ?_
      refine v_iconst (pc := 44) O (x := 0) dX5_key_44 (by decide) ?_
      refine v_istore (pc := 45) (lv' := [(4, .int 0), (3, .int 0), (0, .ref (ad 0)), (1, .int k), (2, .int w)]) O dX5_key_45 rfl rfl ?_
      have L47 : ∀ (d47 j47 : Nat) (v47_3 : Int32) (μ : Mem), nat (s 12 0) < d47 + j47 → j47 ≤ nat (s 12 0) → v47_3 = iter (nvStep s k) j47 0 → RepM Γ ad (sset s 31 0 0) μ → V X Γ (gA μ0 sz) 5 (QV X Γ μ0 sz (PI (fun r9 μ1 => r9 = (keyO s k w).2 ∧ RepM Γ ad ((keyO s k w).1) μ1)) 0 0) 0 0 μ 47 [(4, .int (nI j47)), (3, .int v47_3), (0, .ref (ad 0)), (1, .int k), (2, .int w)] [] := by
        intro d47
        induction d47 with
        | zero => intro j47 v47_3 μ h1 h2; exact absurd h1 (by omega)
        | succ d47 ih47 =>
          intro j47 v47_3 μ hd hj47 he47  hR
          refine v_iload (pc := 47) O dX5_key_47 rfl ?_
          refine v_aload_n (pc := 49) O dX5_key_49 rfl ?_
          refine vm_geti (pc := 50) O hR 12 rfl q2055 (x := (s 12 0)) rfl ((sset_f (by decide)).trans rfl) dX5_key_50 ?_
          refine v_icmp_ge (pc := 53) (tgt := 81) O dX5_key_53 (by decide) (fun c_53 => ?_) (fun c_53 => ?_)
          · have hx47 := lp_out (nat_eq hW.2.2.2.2.2.2.1) (nat_lt _) hj47 c_53
            subst hx47
            refine v_iload_n (pc := 81) O dX5_key_81 rfl ?_
            refine v_if_ne (pc := 82) (tgt := 89) O dX5_key_82 (by decide) (fun c_82 => ?_) (fun c_82 => ?_)
            · refine v_iload_n (pc := 89) O dX5_key_89 rfl ?_
              refine v_iconst (pc := 90) O (x := 1) dX5_key_90 (by decide) ?_
              refine v_icmp_ne (pc := 91) (tgt := 103) O dX5_key_91 (by decide) (fun c_91 => ?_) (fun c_91 => ?_)
              · refine v_iload_n (pc := 103) O dX5_key_103 rfl ?_
                refine v_iconst (pc := 104) O (x := 2) dX5_key_104 (by decide) ?_
                refine v_icmp_ne (pc := 105) (tgt := 117) O dX5_key_105 (by decide) (fun c_105 => ?_) (fun c_105 => ?_)
                · refine v_iload_n (pc := 117) O dX5_key_117 rfl ?_
                  refine v_iconst (pc := 118) O (x := 3) dX5_key_118 (by decide) ?_
                  refine v_icmp_ne (pc := 119) (tgt := 131) O dX5_key_119 (by decide) (fun c_119 => ?_) (fun c_119 => ?_)
                  · refine v_iload_n (pc := 131) O dX5_key_131 rfl ?_
                    refine v_iconst (pc := 132) O (x := 4) dX5_key_132 (by decide) ?_
                    refine v_icmp_ne (pc := 133) (tgt := 144) O dX5_key_133 (by decide) (fun c_133 => ?_) (fun c_133 => ?_)
                    · refine v_iload_n (pc := 144) O dX5_key_144 rfl ?_
                      refine v_iconst (pc := 145) O (x := 5) dX5_key_145 (by decide) ?_
                      refine v_icmp_ne (pc := 146) (tgt := 157) O dX5_key_146 (by decide) (fun c_146 => ?_) (fun c_146 => ?_)
                      · refine v_aload_n (pc := 157) O dX5_key_157 rfl ?_
                        refine vm_get (pc := 158) O hR 7 rfl q2050 rfl dX5_key_158 ?_
                        refine v_iload_n (pc := 161) O dX5_key_161 rfl ?_
                        refine vm_iald (pc := 162) O hR 7 rfl rfl h_k (x := (s 7 k)) ((sset_f (by decide)).trans rfl) dX5_key_162 ?_
                        refine v_iconst (pc := 163) O (x := -1) dX5_key_163 (by decide) ?_
                        refine v_icmp_eq (pc := 164) (tgt := 180) O dX5_key_164 (by decide) (fun c_164 => ?_) (fun c_164 => ?_)
                        · refine v_iconst (pc := 180) O (x := 0) dX5_key_180 (by decide) ?_
                          exact v_iret (pc := 181) O hr (Nat.le_refl _) (Nat.le_refl _) dX5_key_181 ⟨_, rfl, ⟨by simp [keyO, keyF, b2i, nVersF, c_8, c_22, c_53, ← he47, c_82, c_91, c_105, c_119, c_133, c_146, c_164], by simpa [keyO, keyF, b2i, nVersF, c_8, c_22, c_53, ← he47, c_82, c_91, c_105, c_119, c_133, c_146, c_164] using hR⟩⟩
                        · refine v_aload_n (pc := 167) O dX5_key_167 rfl ?_
                          refine vm_get (pc := 168) O hR 8 rfl q2051 rfl dX5_key_168 ?_
                          refine v_iload_n (pc := 171) O dX5_key_171 rfl ?_
                          refine vm_zald (pc := 172) O hR 8 rfl rfl h_k (x := (s 8 k)) ((sset_f (by decide)).trans rfl) dX5_key_172 ?_
                          refine v_if_eq (pc := 173) (tgt := 180) O dX5_key_173 (by decide) (fun c_173 => ?_) (fun c_173 => ?_)
                          · refine v_iconst (pc := 180) O (x := 0) dX5_key_180 (by decide) ?_
                            exact v_iret (pc := 181) O hr (Nat.le_refl _) (Nat.le_refl _) dX5_key_181 ⟨_, rfl, ⟨by simp [keyO, keyF, b2i, nVersF, c_8, c_22, c_53, ← he47, c_82, c_91, c_105, c_119, c_133, c_146, c_164, c_173], by simpa [keyO, keyF, b2i, nVersF, c_8, c_22, c_53, ← he47, c_82, c_91, c_105, c_119, c_133, c_146, c_164, c_173] using hR⟩⟩
                          · refine v_iconst (pc := 176) O (x := 1) dX5_key_176 (by decide) ?_
                            refine v_goto (pc := 177) O (tgt := 181) dX5_key_177 (by decide) ?_
                            exact v_iret (pc := 181) O hr (Nat.le_refl _) (Nat.le_refl _) dX5_key_181 ⟨_, rfl, ⟨by simp [keyO, keyF, b2i, nVersF, c_8, c_22, c_53, ← he47, c_82, c_91, c_105, c_119, c_133, c_146, c_164, c_173], by simpa [keyO, keyF, b2i, nVersF, c_8, c_22, c_53, ← he47, c_82, c_91, c_105, c_119, c_133, c_146, c_164, c_173] using hR⟩⟩
                      · refine v_aload_n (pc := 149) O dX5_key_149 rfl ?_
                        refine v_iload_n (pc := 150) O dX5_key_150 rfl ?_
                        refine v_callVi0 (pc := 151) (nA := 1) O (mm_nodeOf (xL X) Γ ad k (WfM.oth hW (by decide)) hR) hR.1 rfl q2179 q2181 qs23 q71 q2182 (by decide +kernel) rfl rfl rfl rfl (Nat.le_of_ble_eq_true rfl) (Nat.le_refl _) (Nat.le_refl _) dX5_key_151 (fun x μ h => ?_)
                        obtain ⟨hx, hR⟩ := h
                        rw [node_oth (by decide) (by decide) (by decide)] at hx
                        subst hx
                        refine v_goto (pc := 154) O (tgt := 181) dX5_key_154 (by decide) ?_
                        exact v_iret (pc := 181) O hr (Nat.le_refl _) (Nat.le_refl _) dX5_key_181 ⟨_, rfl, ⟨by simp [keyO, keyF, b2i, nVersF, c_8, c_22, c_53, ← he47, c_82, c_91, c_105, c_119, c_133, c_146, (show inB 5 0 6 = true by decide)], by simpa [keyO, keyF, b2i, nVersF, c_8, c_22, c_53, ← he47, c_82, c_91, c_105, c_119, c_133, c_146, (show inB 5 0 6 = true by decide)] using hR⟩⟩
                    · refine v_aload_n (pc := 136) O dX5_key_136 rfl ?_
                      refine v_iload_n (pc := 137) O dX5_key_137 rfl ?_
                      refine v_callVi0 (pc := 138) (nA := 1) O (mm_rangeOf (xL X) Γ ad k (WfM.oth hW (by decide)) hR) hR.1 rfl q2183 q2185 qs24 q71 q2186 (by decide +kernel) rfl rfl rfl rfl (Nat.le_of_ble_eq_true rfl) (Nat.le_refl _) (Nat.le_refl _) dX5_key_138 (fun x μ h => ?_)
                      obtain ⟨hx, hR⟩ := h
                      rw [rng_oth (by decide) (by decide)] at hx
                      subst hx
                      refine v_goto (pc := 141) O (tgt := 181) dX5_key_141 (by decide) ?_
                      exact v_iret (pc := 181) O hr (Nat.le_refl _) (Nat.le_refl _) dX5_key_181 ⟨_, rfl, ⟨by simp [keyO, keyF, b2i, nVersF, c_8, c_22, c_53, ← he47, c_82, c_91, c_105, c_119, c_133, (show inB 4 0 6 = true by decide)], by simpa [keyO, keyF, b2i, nVersF, c_8, c_22, c_53, ← he47, c_82, c_91, c_105, c_119, c_133, (show inB 4 0 6 = true by decide)] using hR⟩⟩
                  · refine v_aload_n (pc := 122) O dX5_key_122 rfl ?_
                    refine vm_get (pc := 123) O hR 11 rfl q2054 rfl dX5_key_123 ?_
                    refine v_iload_n (pc := 126) O dX5_key_126 rfl ?_
                    refine vm_iald (pc := 127) O hR 11 rfl rfl h_k (x := (s 11 k)) ((sset_f (by decide)).trans rfl) dX5_key_127 ?_
                    refine v_goto (pc := 128) O (tgt := 181) dX5_key_128 (by decide) ?_
                    exact v_iret (pc := 181) O hr (Nat.le_refl _) (Nat.le_refl _) dX5_key_181 ⟨_, rfl, ⟨by simp [keyO, keyF, b2i, nVersF, c_8, c_22, c_53, ← he47, c_82, c_91, c_105, c_119, (show inB 3 0 6 = true by decide)], by simpa [keyO, keyF, b2i, nVersF, c_8, c_22, c_53, ← he47, c_82, c_91, c_105, c_119, (show inB 3 0 6 = true by decide)] using hR⟩⟩
                · refine v_aload_n (pc := 108) O dX5_key_108 rfl ?_
                  refine vm_get (pc := 109) O hR 10 rfl q2053 rfl dX5_key_109 ?_
                  refine v_iload_n (pc := 112) O dX5_key_112 rfl ?_
                  refine vm_iald (pc := 113) O hR 10 rfl rfl h_k (x := (s 10 k)) ((sset_f (by decide)).trans rfl) dX5_key_113 ?_
                  refine v_goto (pc := 114) O (tgt := 181) dX5_key_114 (by decide) ?_
                  exact v_iret (pc := 181) O hr (Nat.le_refl _) (Nat.le_refl _) dX5_key_181 ⟨_, rfl, ⟨by simp [keyO, keyF, b2i, nVersF, c_8, c_22, c_53, ← he47, c_82, c_91, c_105, (show inB 2 0 6 = true by decide)], by simpa [keyO, keyF, b2i, nVersF, c_8, c_22, c_53, ← he47, c_82, c_91, c_105, (show inB 2 0 6 = true by decide)] using hR⟩⟩
              · refine v_aload_n (pc := 94) O dX5_key_94 rfl ?_
                refine vm_get (pc := 95) O hR 7 rfl q2050 rfl dX5_key_95 ?_
                refine v_iload_n (pc := 98) O dX5_key_98 rfl ?_
                refine vm_iald (pc := 99) O hR 7 rfl rfl h_k (x := (s 7 k)) ((sset_f (by decide)).trans rfl) dX5_key_99 ?_
                refine v_goto (pc := 100) O (tgt := 181) dX5_key_100 (by decide) ?_
                exact v_iret (pc := 181) O hr (Nat.le_refl _) (Nat.le_refl _) dX5_key_181 ⟨_, rfl, ⟨by simp [keyO, keyF, b2i, nVersF, c_8, c_22, c_53, ← he47, c_82, c_91, (show inB 1 0 6 = true by decide)], by simpa [keyO, keyF, b2i, nVersF, c_8, c_22, c_53, ← he47, c_82, c_91, (show inB 1 0 6 = true by decide)] using hR⟩⟩
            · refine v_iload_n (pc := 85) O dX5_key_85 rfl ?_
              refine v_goto (pc := 86) O (tgt := 181) dX5_key_86 (by decide) ?_
              exact v_iret (pc := 181) O hr (Nat.le_refl _) (Nat.le_refl _) dX5_key_181 ⟨_, rfl, ⟨by simp [keyO, keyF, b2i, nVersF, c_8, c_22, c_53, ← he47, c_82, (show inB 0 0 6 = true by decide)], by simpa [keyO, keyF, b2i, nVersF, c_8, c_22, c_53, ← he47, c_82, (show inB 0 0 6 = true by decide)] using hR⟩⟩
          · have hj47lt := lp_in (nat_eq hW.2.2.2.2.2.2.1) (nat_lt _) hj47 c_53
            refine v_iload_n (pc := 56) O dX5_key_56 rfl ?_
            refine v_aload_n (pc := 57) O dX5_key_57 rfl ?_
            refine vm_get (pc := 58) O hR 13 rfl q2056 rfl dX5_key_58 ?_
            refine v_iload (pc := 61) O dX5_key_61 rfl ?_
            refine vm_iald (pc := 63) O hR 13 rfl rfl (ir_nI (Nat.lt_of_lt_of_le hj47lt (hW.v13 hB)) (by decide)) (x := (s 13 (nI j47))) ((sset_f (by decide)).trans rfl) dX5_key_63 ?_
            refine v_iload_n (pc := 64) O dX5_key_64 rfl ?_
            refine v_icmp_ne (pc := 65) (tgt := 72) O dX5_key_65 (by decide) (fun c_65 => ?_) (fun c_65 => ?_)
            · refine v_iconst (pc := 72) O (x := 0) dX5_key_72 (by decide) ?_
              refine v_iadd (pc := 73) O dX5_key_73 ?_
              refine v_istore_n (pc := 74) (lv' := [(3, .int (v47_3 + 0)), (4, .int (nI j47)), (0, .ref (ad 0)), (1, .int k), (2, .int w)]) O dX5_key_74 rfl rfl ?_
              refine v_iinc (pc := 75) (y := (nI (j47 + 1))) (lv' := [(4, .int (nI (j47 + 1))), (3, .int (v47_3 + 0)), (0, .ref (ad 0)), (1, .int k), (2, .int w)]) O dX5_key_75 rfl (nI_inc _) rfl rfl ?_
              refine v_goto (pc := 78) O (tgt := 47) dX5_key_78 (by decide) ?_
              exact v_locs [0, 1, 2, 3, 4] rfl (ih47 (j47 + 1) (v47_3 + 0) _ (by omega) (by omega) (by rw [iter_s, ← he47]; simp [nvStep, c_53, c_65])  hR)
            · refine v_iconst (pc := 68) O (x := 1) dX5_key_68 (by decide) ?_
              refine v_goto (pc := 69) O (tgt := 73) dX5_key_69 (by decide) ?_
              refine v_iadd (pc := 73) O dX5_key_73 ?_
              refine v_istore_n (pc := 74) (lv' := [(3, .int (v47_3 + 1)), (4, .int (nI j47)), (0, .ref (ad 0)), (1, .int k), (2, .int w)]) O dX5_key_74 rfl rfl ?_
              refine v_iinc (pc := 75) (y := (nI (j47 + 1))) (lv' := [(4, .int (nI (j47 + 1))), (3, .int (v47_3 + 1)), (0, .ref (ad 0)), (1, .int k), (2, .int w)]) O dX5_key_75 rfl (nI_inc _) rfl rfl ?_
              refine v_goto (pc := 78) O (tgt := 47) dX5_key_78 (by decide) ?_
              exact v_locs [0, 1, 2, 3, 4] rfl (ih47 (j47 + 1) (v47_3 + 1) _ (by omega) (by omega) (by rw [iter_s, ← he47]; simp [nvStep, c_53, c_65])  hR)
      exact v_locs [0, 1, 2, 3, 4] rfl (L47 (nat (s 12 0) + 1) 0 0 _ (by omega) (by omega) iter_0.symm  hR)
    · refine v_iconst (pc := 25) O (x := 2) dX5_key_25 (by decide) ?_
      refine v_goto (pc := 26) O (tgt := 30) dX5_key_26 (by decide) ?_
      refine vm_put (pc := 30) O hR 31 (by decide) q2074 dX5_key_30 (fun μ hR => ?_)
      refine v_aload_n (pc := 33) O dX5_key_33 rfl ?_
      refine vm_geti (pc := 34) O hR 31 rfl q2074 (x := 2) rfl sset_eq dX5_key_34 ?_
      refine v_if_le (pc := 37) (tgt := 42) O dX5_key_37 (by decide) (fun c => absurd c (by decide)) (fun _ => ?_)
      refine v_iconst (pc := 40) O (x := 0) dX5_key_40 (by decide) ?_
      exact v_iret (pc := 41) O hr (Nat.le_refl _) (Nat.le_refl _) dX5_key_41 ⟨_, rfl, ⟨by simp [keyO, keyF, b2i, nVersF, c_8, c_22], by simpa [keyO, keyF, b2i, nVersF, c_8, c_22] using hR⟩⟩
  · refine v_iconst (pc := 11) O (x := 1) dX5_key_11 (by decide) ?_
    refine v_goto (pc := 12) O (tgt := 30) dX5_key_12 (by decide) ?_
    refine vm_put (pc := 30) O hR 31 (by decide) q2074 dX5_key_30 (fun μ hR => ?_)
    refine v_aload_n (pc := 33) O dX5_key_33 rfl ?_
    refine vm_geti (pc := 34) O hR 31 rfl q2074 (x := 1) rfl sset_eq dX5_key_34 ?_
    refine v_if_le (pc := 37) (tgt := 42) O dX5_key_37 (by decide) (fun c => absurd c (by decide)) (fun _ => ?_)
    refine v_iconst (pc := 40) O (x := 0) dX5_key_40 (by decide) ?_
    exact v_iret (pc := 41) O hr (Nat.le_refl _) (Nat.le_refl _) dX5_key_41 ⟨_, rfl, ⟨by simp [keyO, keyF, b2i, nVersF, c_8], by simpa [keyO, keyF, b2i, nVersF, c_8] using hR⟩⟩
set_option maxHeartbeats 4000000 in
theorem mm_asOf (l : Launch) (Γ : Gm) (ad : Nat → Nat) (k st : Int32) {s : St} {μ0 : Mem} {B : Nat} (hB : B ≤ 1000) (hW : WfM B s) (hR : RepM Γ ad s μ0) : MetV l Γ yX5_asOf cX5_asOf 4 (some .int) 4 0 0 [.ref (ad 0), .int k, .int st] μ0 (PI (fun r9 μ1 => r9 = (asOfO s k st).2 ∧ RepM Γ ad ((asOfO s k st).1) μ1)) := by
  refine MetV.of (by decide +kernel) rfl ?_
  intro X sz hl hr hnm O
  subst hl
  show V X Γ _ 4 _ 0 0 μ0 0 [(0, .ref (ad 0)), (1, .int k), (2, .int st)] []
  refine v_aload_n (pc := 0) O dX5_asOf_0 rfl ?_
  refine v_iload_n (pc := 1) O dX5_asOf_1 rfl ?_
  refine v_iconst (pc := 2) O (x := 0) dX5_asOf_2 (by decide) ?_
  refine v_bipush (pc := 3) O (x := 31) dX5_asOf_3 (by decide) ?_
  refine v_callSi0 (pc := 5) (nA := 3) O (mm_in (xL X) Γ k 0 31 _) q2149 q2150 q71 q2151 (by decide +kernel) rfl rfl rfl rfl (Nat.le_of_ble_eq_true rfl) (Nat.le_refl _) (Nat.le_refl _) dX5_asOf_5 (fun x μ1 h => ?_)
  obtain ⟨rfl, rfl⟩ := h
  refine v_if_ne_b (pc := 8) (tgt := 15) O dX5_asOf_8 (by decide) (fun c_8 => ?_) (fun c_8 => ?_)
  · have h_k : ir k (nI 32) := ir_of (hi := 31) (by decide) (by decide) (by decide) c_8
    refine v_iload_n (pc := 15) O dX5_asOf_15 rfl ?_
    refine v_iconst (pc := 16) O (x := 0) dX5_asOf_16 (by decide) ?_
    refine v_aload_n (pc := 17) O dX5_asOf_17 rfl ?_
    refine v_callVi0 (pc := 18) (nA := 0) O (mm_closedNow (xL X) Γ ad hR) hR.1 rfl q2171 q2173 qs22 q71 q2174 (by decide +kernel) rfl rfl rfl rfl (Nat.le_of_ble_eq_true rfl) (Nat.le_refl _) (Nat.le_refl _) dX5_asOf_18 (fun x μ h => ?_)
    obtain ⟨rfl, hR⟩ := h
    refine v_callSi0 (pc := 21) (nA := 3) O (mm_in (xL X) Γ st 0 (closedF s) _) q2149 q2150 q71 q2151 (by decide +kernel) rfl rfl rfl rfl (Nat.le_of_ble_eq_true rfl) (Nat.le_refl _) (Nat.le_refl _) dX5_asOf_21 (fun x μ1 h => ?_)
    obtain ⟨rfl, rfl⟩ := h
    refine v_if_ne_b (pc := 24) (tgt := 31) O dX5_asOf_24 (by decide) (fun c_24 => ?_) (fun c_24 => ?_)
    · refine v_iconst (pc := 31) O (x := 0) dX5_asOf_31 (by decide) ?_
      refine vm_put (pc := 32) O hR 31 (by decide) q2074 dX5_asOf_32 (fun μ hR => ?_)
      refine v_aload_n (pc := 35) O dX5_asOf_35 rfl ?_
      refine vm_geti (pc := 36) O hR 31 rfl q2074 (x := 0) rfl sset_eq dX5_asOf_36 ?_
      refine v_if_le (pc := 39) (tgt := 44) O dX5_asOf_39 (by decide) (fun _ => ?_) (fun c => absurd (by decide) c)
      refine v_aload_n (pc := 44) O dX5_asOf_44 rfl ?_
      refine vm_get (pc := 45) O hR 7 rfl q2050 rfl dX5_asOf_45 ?_
      refine v_iload_n (pc := 48) O dX5_asOf_48 rfl ?_
      refine vm_iald (pc := 49) O hR 7 rfl rfl h_k (x := (s 7 k)) ((sset_f (by decide)).trans rfl) dX5_asOf_49 ?_
      refine v_istore_n (pc := 50) (lv' := [(3, .int (s 7 k)), (0, .ref (ad 0)), (1, .int k), (2, .int st)]) O dX5_asOf_50 rfl rfl ?_
      refine v_iload_n (pc := 51) O dX5_asOf_51 rfl ?_
      refine v_iconst (pc := 52) O (x := -1) dX5_asOf_52 (by decide) ?_
      refine v_icmp_eq (pc := 53) (tgt := 81) O dX5_asOf_53 (by decide) (fun c_53 => ?_) (fun c_53 => ?_)
      · refine v_aload_n (pc := 81) O dX5_asOf_81 rfl ?_
        refine v_iload_n (pc := 82) O dX5_asOf_82 rfl ?_
        refine v_iload_n (pc := 83) O dX5_asOf_83 rfl ?_
        refine v_callVi0 (pc := 84) (nA := 2) O (mm_valueAt (xL X) Γ ad k st hB (WfM.oth hW (by decide)) hR) hR.1 rfl q2279 q2281 qs41 q71 q2282 (by decide +kernel) rfl rfl rfl rfl (Nat.le_of_ble_eq_true rfl) (Nat.le_refl _) (Nat.le_refl _) dX5_asOf_84 (fun x μ h => ?_)
        obtain ⟨hx, hR⟩ := h
        rw [val_oth (by decide) (by decide) (by decide) (by decide)] at hx
        subst hx
        exact v_iret (pc := 87) O hr (Nat.le_refl _) (Nat.le_refl _) dX5_asOf_87 ⟨_, rfl, ⟨by simp [asOfO, asOfF, c_8, c_24, c_53], by simpa [asOfO, asOfF, c_8, c_24, c_53] using hR⟩⟩
      · refine v_aload_n (pc := 56) O dX5_asOf_56 rfl ?_
        refine vm_get (pc := 57) O hR 23 rfl q2066 rfl dX5_asOf_57 ?_
        refine v_iload_n (pc := 60) O dX5_asOf_60 rfl ?_
        refine vm_iald (pc := 61) O hR 23 rfl rfl (hW.own c_53) (x := (s 23 (s 7 k))) ((sset_f (by decide)).trans rfl) dX5_asOf_61 ?_
        refine v_iconst (pc := 62) O (x := 1) dX5_asOf_62 (by decide) ?_
        refine v_icmp_ne (pc := 63) (tgt := 81) O dX5_asOf_63 (by decide) (fun c_63 => ?_) (fun c_63 => ?_)
        · refine v_aload_n (pc := 81) O dX5_asOf_81 rfl ?_
          refine v_iload_n (pc := 82) O dX5_asOf_82 rfl ?_
          refine v_iload_n (pc := 83) O dX5_asOf_83 rfl ?_
          refine v_callVi0 (pc := 84) (nA := 2) O (mm_valueAt (xL X) Γ ad k st hB (WfM.oth hW (by decide)) hR) hR.1 rfl q2279 q2281 qs41 q71 q2282 (by decide +kernel) rfl rfl rfl rfl (Nat.le_of_ble_eq_true rfl) (Nat.le_refl _) (Nat.le_refl _) dX5_asOf_84 (fun x μ h => ?_)
          obtain ⟨hx, hR⟩ := h
          rw [val_oth (by decide) (by decide) (by decide) (by decide)] at hx
          subst hx
          exact v_iret (pc := 87) O hr (Nat.le_refl _) (Nat.le_refl _) dX5_asOf_87 ⟨_, rfl, ⟨by simp [asOfO, asOfF, c_8, c_24, c_53, c_63], by simpa [asOfO, asOfF, c_8, c_24, c_53, c_63] using hR⟩⟩
        · refine v_aload_n (pc := 66) O dX5_asOf_66 rfl ?_
          refine vm_get (pc := 67) O hR 20 rfl q2063 rfl dX5_asOf_67 ?_
          refine v_iload_n (pc := 70) O dX5_asOf_70 rfl ?_
          refine vm_iald (pc := 71) O hR 20 rfl rfl (hW.own c_53) (x := (s 20 (s 7 k))) ((sset_f (by decide)).trans rfl) dX5_asOf_71 ?_
          refine v_iload_n (pc := 72) O dX5_asOf_72 rfl ?_
          refine v_icmp_gt (pc := 73) (tgt := 81) O dX5_asOf_73 (by decide) (fun c_73 => ?_) (fun c_73 => ?_)
          · refine v_aload_n (pc := 81) O dX5_asOf_81 rfl ?_
            refine v_iload_n (pc := 82) O dX5_asOf_82 rfl ?_
            refine v_iload_n (pc := 83) O dX5_asOf_83 rfl ?_
            refine v_callVi0 (pc := 84) (nA := 2) O (mm_valueAt (xL X) Γ ad k st hB (WfM.oth hW (by decide)) hR) hR.1 rfl q2279 q2281 qs41 q71 q2282 (by decide +kernel) rfl rfl rfl rfl (Nat.le_of_ble_eq_true rfl) (Nat.le_refl _) (Nat.le_refl _) dX5_asOf_84 (fun x μ h => ?_)
            obtain ⟨hx, hR⟩ := h
            rw [val_oth (by decide) (by decide) (by decide) (by decide)] at hx
            subst hx
            exact v_iret (pc := 87) O hr (Nat.le_refl _) (Nat.le_refl _) dX5_asOf_87 ⟨_, rfl, ⟨by simp [asOfO, asOfF, c_8, c_24, c_53, c_63, c_73], by simpa [asOfO, asOfF, c_8, c_24, c_53, c_63, c_73] using hR⟩⟩
          · refine v_bipush (pc := 76) O (x := -11) dX5_asOf_76 (by decide) ?_
            refine v_goto (pc := 78) O (tgt := 87) dX5_asOf_78 (by decide) ?_
            exact v_iret (pc := 87) O hr (Nat.le_refl _) (Nat.le_refl _) dX5_asOf_87 ⟨_, rfl, ⟨by simp [asOfO, asOfF, c_8, c_24, c_53, c_63, c_73], by simpa [asOfO, asOfF, c_8, c_24, c_53, c_63, c_73] using hR⟩⟩
    · refine v_iconst (pc := 27) O (x := 2) dX5_asOf_27 (by decide) ?_
      refine v_goto (pc := 28) O (tgt := 32) dX5_asOf_28 (by decide) ?_
      refine vm_put (pc := 32) O hR 31 (by decide) q2074 dX5_asOf_32 (fun μ hR => ?_)
      refine v_aload_n (pc := 35) O dX5_asOf_35 rfl ?_
      refine vm_geti (pc := 36) O hR 31 rfl q2074 (x := 2) rfl sset_eq dX5_asOf_36 ?_
      refine v_if_le (pc := 39) (tgt := 44) O dX5_asOf_39 (by decide) (fun c => absurd c (by decide)) (fun _ => ?_)
      refine v_iconst (pc := 42) O (x := 0) dX5_asOf_42 (by decide) ?_
      exact v_iret (pc := 43) O hr (Nat.le_refl _) (Nat.le_refl _) dX5_asOf_43 ⟨_, rfl, ⟨by simp [asOfO, asOfF, c_8, c_24], by simpa [asOfO, asOfF, c_8, c_24] using hR⟩⟩
  · refine v_iconst (pc := 11) O (x := 1) dX5_asOf_11 (by decide) ?_
    refine v_goto (pc := 12) O (tgt := 32) dX5_asOf_12 (by decide) ?_
    refine vm_put (pc := 32) O hR 31 (by decide) q2074 dX5_asOf_32 (fun μ hR => ?_)
    refine v_aload_n (pc := 35) O dX5_asOf_35 rfl ?_
    refine vm_geti (pc := 36) O hR 31 rfl q2074 (x := 1) rfl sset_eq dX5_asOf_36 ?_
    refine v_if_le (pc := 39) (tgt := 44) O dX5_asOf_39 (by decide) (fun c => absurd c (by decide)) (fun _ => ?_)
    refine v_iconst (pc := 42) O (x := 0) dX5_asOf_42 (by decide) ?_
    exact v_iret (pc := 43) O hr (Nat.le_refl _) (Nat.le_refl _) dX5_asOf_43 ⟨_, rfl, ⟨by simp [asOfO, asOfF, c_8], by simpa [asOfO, asOfF, c_8] using hR⟩⟩
set_option maxHeartbeats 4000000 in
theorem mm_resolvedNow (l : Launch) (Γ : Gm) (ad : Nat → Nat)  {s : St} {μ0 : Mem} {B : Nat} (hW : WfM B s) (hR : RepM Γ ad s μ0) : MetV l Γ yX5_resolvedNow cX5_resolvedNow 3 (some .int) 3 0 0 [.ref (ad 0)] μ0 (PI (fun r9 μ1 => r9 = (resolvedF s) ∧ RepM Γ ad s μ1)) := by
  refine MetV.of (by decide +kernel) rfl ?_
  intro X sz hl hr hnm O
  subst hl
  show V X Γ _ 3 _ 0 0 μ0 0 [(0, .ref (ad 0))] []
  refine v_aload_n (pc := 0) O dX5_resolvedNow_0 rfl ?_
  refine v_callVi0 (pc := 1) (nA := 0) O (mm_closedNow (xL X) Γ ad hR) hR.1 rfl q2171 q2173 qs22 q71 q2174 (by decide +kernel) rfl rfl rfl rfl (Nat.le_of_ble_eq_true rfl) (Nat.le_refl _) (Nat.le_refl _) dX5_resolvedNow_1 (fun x μ h => ?_)
  obtain ⟨rfl, hR⟩ := h
  refine v_istore_n (pc := 4) (lv' := [(1, .int (closedF s)), (0, .ref (ad 0))]) O dX5_resolvedNow_4 rfl rfl ?_
  refine v_iconst (pc := 5) O (x := 0) dX5_resolvedNow_5 (by decide) ?_
  refine v_istore_n (pc := 6) (lv' := [(2, .int 0), (1, .int (closedF s)), (0, .ref (ad 0))]) O dX5_resolvedNow_6 rfl rfl ?_
  have L7 : ∀ (d7 j7 : Nat) (v7_1 : Int32) (μ : Mem), nat (s 16 0) < d7 + j7 → j7 ≤ nat (s 16 0) → v7_1 = iter (rsvStep s) j7 (closedF s) → RepM Γ ad s μ → V X Γ (gA μ0 sz) 3 (QV X Γ μ0 sz (PI (fun r9 μ1 => r9 = (resolvedF s) ∧ RepM Γ ad s μ1)) 0 0) 0 0 μ 7 [(2, .int (nI j7)), (1, .int v7_1), (0, .ref (ad 0))] [] := by
    intro d7
    induction d7 with
    | zero => intro j7 v7_1 μ h1 h2; exact absurd h1 (by omega)
    | succ d7 ih7 =>
      intro j7 v7_1 μ hd hj7 he7  hR
      refine v_iload_n (pc := 7) O dX5_resolvedNow_7 rfl ?_
      refine v_aload_n (pc := 8) O dX5_resolvedNow_8 rfl ?_
      refine vm_geti (pc := 9) O hR 16 rfl q2059 (x := (s 16 0)) rfl rfl dX5_resolvedNow_9 ?_
      refine v_icmp_ge (pc := 12) (tgt := 56) O dX5_resolvedNow_12 (by decide) (fun c_12 => ?_) (fun c_12 => ?_)
      · have hx7 := lp_out (nat_eq hW.2.2.2.1.1) (nat_lt _) hj7 c_12
        subst hx7
        refine v_iload_n (pc := 56) O dX5_resolvedNow_56 rfl ?_
        exact v_iret (pc := 57) O hr (Nat.le_refl _) (Nat.le_refl _) dX5_resolvedNow_57 ⟨_, rfl, ⟨by simp [resolvedF, c_12, ← he7], by simpa [resolvedF, c_12, ← he7] using hR⟩⟩
      · have hj7lt := lp_in (nat_eq hW.2.2.2.1.1) (nat_lt _) hj7 c_12
        refine v_aload_n (pc := 15) O dX5_resolvedNow_15 rfl ?_
        refine vm_get (pc := 16) O hR 23 rfl q2066 rfl dX5_resolvedNow_16 ?_
        refine v_iload_n (pc := 19) O dX5_resolvedNow_19 rfl ?_
        refine vm_iald (pc := 20) O hR 23 rfl rfl (ir_nI (Nat.lt_of_lt_of_le hj7lt hW.m40) (by decide)) (x := (s 23 (nI j7))) rfl dX5_resolvedNow_20 ?_
        refine v_iconst (pc := 21) O (x := 1) dX5_resolvedNow_21 (by decide) ?_
        refine v_icmp_ne (pc := 22) (tgt := 48) O dX5_resolvedNow_22 (by decide) (fun c_22 => ?_) (fun c_22 => ?_)
        · refine v_iload_n (pc := 48) O dX5_resolvedNow_48 rfl ?_
          refine v_istore_n (pc := 49) (lv' := [(1, .int v7_1), (2, .int (nI j7)), (0, .ref (ad 0))]) O dX5_resolvedNow_49 rfl rfl ?_
          refine v_iinc (pc := 50) (y := (nI (j7 + 1))) (lv' := [(2, .int (nI (j7 + 1))), (1, .int v7_1), (0, .ref (ad 0))]) O dX5_resolvedNow_50 rfl (nI_inc _) rfl rfl ?_
          refine v_goto (pc := 53) O (tgt := 7) dX5_resolvedNow_53 (by decide) ?_
          exact v_locs [0, 1, 2] rfl (ih7 (j7 + 1) v7_1 _ (by omega) (by omega) (by rw [iter_s, ← he7]; simp [rsvStep, c_12, c_22])  hR)
        · refine v_aload_n (pc := 25) O dX5_resolvedNow_25 rfl ?_
          refine vm_get (pc := 26) O hR 20 rfl q2063 rfl dX5_resolvedNow_26 ?_
          refine v_iload_n (pc := 29) O dX5_resolvedNow_29 rfl ?_
          refine vm_iald (pc := 30) O hR 20 rfl rfl (ir_nI (Nat.lt_of_lt_of_le hj7lt hW.m40) (by decide)) (x := (s 20 (nI j7))) rfl dX5_resolvedNow_30 ?_
          refine v_iconst (pc := 31) O (x := 1) dX5_resolvedNow_31 (by decide) ?_
          refine v_isub (pc := 32) O dX5_resolvedNow_32 ?_
          refine v_iload_n (pc := 33) O dX5_resolvedNow_33 rfl ?_
          refine v_icmp_ge (pc := 34) (tgt := 48) O dX5_resolvedNow_34 (by decide) (fun c_34 => ?_) (fun c_34 => ?_)
          · refine v_iload_n (pc := 48) O dX5_resolvedNow_48 rfl ?_
            refine v_istore_n (pc := 49) (lv' := [(1, .int v7_1), (2, .int (nI j7)), (0, .ref (ad 0))]) O dX5_resolvedNow_49 rfl rfl ?_
            refine v_iinc (pc := 50) (y := (nI (j7 + 1))) (lv' := [(2, .int (nI (j7 + 1))), (1, .int v7_1), (0, .ref (ad 0))]) O dX5_resolvedNow_50 rfl (nI_inc _) rfl rfl ?_
            refine v_goto (pc := 53) O (tgt := 7) dX5_resolvedNow_53 (by decide) ?_
            exact v_locs [0, 1, 2] rfl (ih7 (j7 + 1) v7_1 _ (by omega) (by omega) (by rw [iter_s, ← he7]; simp [rsvStep, c_12, c_22, c_34])  hR)
          · refine v_aload_n (pc := 37) O dX5_resolvedNow_37 rfl ?_
            refine vm_get (pc := 38) O hR 20 rfl q2063 rfl dX5_resolvedNow_38 ?_
            refine v_iload_n (pc := 41) O dX5_resolvedNow_41 rfl ?_
            refine vm_iald (pc := 42) O hR 20 rfl rfl (ir_nI (Nat.lt_of_lt_of_le hj7lt hW.m40) (by decide)) (x := (s 20 (nI j7))) rfl dX5_resolvedNow_42 ?_
            refine v_iconst (pc := 43) O (x := 1) dX5_resolvedNow_43 (by decide) ?_
            refine v_isub (pc := 44) O dX5_resolvedNow_44 ?_
            refine v_goto (pc := 45) O (tgt := 49) dX5_resolvedNow_45 (by decide) ?_
            refine v_istore_n (pc := 49) (lv' := [(1, .int ((s 20 (nI j7)) - 1)), (2, .int (nI j7)), (0, .ref (ad 0))]) O dX5_resolvedNow_49 rfl rfl ?_
            refine v_iinc (pc := 50) (y := (nI (j7 + 1))) (lv' := [(2, .int (nI (j7 + 1))), (1, .int ((s 20 (nI j7)) - 1)), (0, .ref (ad 0))]) O dX5_resolvedNow_50 rfl (nI_inc _) rfl rfl ?_
            refine v_goto (pc := 53) O (tgt := 7) dX5_resolvedNow_53 (by decide) ?_
            exact v_locs [0, 1, 2] rfl (ih7 (j7 + 1) ((s 20 (nI j7)) - 1) _ (by omega) (by omega) (by rw [iter_s, ← he7]; simp [rsvStep, c_12, c_22, c_34])  hR)
  exact v_locs [0, 1, 2] rfl (L7 (nat (s 16 0) + 1) 0 (closedF s) _ (by omega) (by omega) iter_0.symm  hR)
set_option maxHeartbeats 4000000 in
theorem mm_resolved (l : Launch) (Γ : Gm) (ad : Nat → Nat)  {s : St} {μ0 : Mem} {B : Nat} (hW : WfM B s) (hR : RepM Γ ad s μ0) : MetV l Γ yX5_resolved cX5_resolved 1 (some .int) 4 0 0 [.ref (ad 0)] μ0 (PI (fun r9 μ1 => r9 = (resolvedF s) ∧ RepM Γ ad (sset s 31 0 0) μ1)) := by
  refine MetV.of (by decide +kernel) rfl ?_
  intro X sz hl hr hnm O
  subst hl
  show V X Γ _ 1 _ 0 0 μ0 0 [(0, .ref (ad 0))] []
  refine v_aload_n (pc := 0) O dX5_resolved_0 rfl ?_
  refine v_iconst (pc := 1) O (x := 0) dX5_resolved_1 (by decide) ?_
  refine vm_put (pc := 2) O hR 31 (by decide) q2074 dX5_resolved_2 (fun μ hR => ?_)
  refine v_aload_n (pc := 5) O dX5_resolved_5 rfl ?_
  refine v_callVi0 (pc := 6) (nA := 0) O (mm_resolvedNow (xL X) Γ ad (WfM.oth hW (by decide)) hR) hR.1 rfl q2328 q2330 qs44 q71 q2331 (by decide +kernel) rfl rfl rfl rfl (Nat.le_of_ble_eq_true rfl) (Nat.le_refl _) (Nat.le_refl _) dX5_resolved_6 (fun x μ h => ?_)
  obtain ⟨hx, hR⟩ := h
  rw [rsv_oth (by decide) (by decide) (by decide) (by decide)] at hx
  subst hx
  exact v_iret (pc := 9) O hr (Nat.le_refl _) (Nat.le_refl _) dX5_resolved_9 ⟨_, rfl, ⟨by simp [], by simpa [] using hR⟩⟩
set_option maxHeartbeats 4000000 in
theorem mm_isAhead (l : Launch) (Γ : Gm) (ad : Nat → Nat) (a b : Int32) {s : St} {μ0 : Mem} (h_a : ir a (nI 40)) (h_b : ir b (nI 40)) (hR : RepM Γ ad s μ0) : MetV l Γ yX5_isAhead cX5_isAhead 3 (some .boolean) 1 0 0 [.ref (ad 0), .int a, .int b] μ0 (PI (fun r9 μ1 => r9 = (b2i (aheadB s a b)) ∧ RepM Γ ad s μ1)) := by
  refine MetV.of (by decide +kernel) rfl ?_
  intro X sz hl hr hnm O
  subst hl
  show V X Γ _ 3 _ 0 0 μ0 0 [(0, .ref (ad 0)), (1, .int a), (2, .int b)] []
  refine v_aload_n (pc := 0) O dX5_isAhead_0 rfl ?_
  refine vm_get (pc := 1) O hR 20 rfl q2063 rfl dX5_isAhead_1 ?_
  refine v_iload_n (pc := 4) O dX5_isAhead_4 rfl ?_
  refine vm_iald (pc := 5) O hR 20 rfl rfl h_a (x := (s 20 a)) rfl dX5_isAhead_5 ?_
  refine v_aload_n (pc := 6) O dX5_isAhead_6 rfl ?_
  refine vm_get (pc := 7) O hR 20 rfl q2063 rfl dX5_isAhead_7 ?_
  refine v_iload_n (pc := 10) O dX5_isAhead_10 rfl ?_
  refine vm_iald (pc := 11) O hR 20 rfl rfl h_b (x := (s 20 b)) rfl dX5_isAhead_11 ?_
  refine v_icmp_lt (pc := 12) (tgt := 45) O dX5_isAhead_12 (by decide) (fun c_12 => ?_) (fun c_12 => ?_)
  · refine v_iconst (pc := 45) O (x := 1) dX5_isAhead_45 (by decide) ?_
    refine v_goto (pc := 46) O (tgt := 50) dX5_isAhead_46 (by decide) ?_
    exact v_zret (pc := 50) O hr (Nat.le_refl _) (Nat.le_refl _) dX5_isAhead_50 rfl ⟨_, rfl, ⟨by simp [aheadB, b2i, c_12], by simpa [aheadB, b2i, c_12] using hR⟩⟩
  · refine v_aload_n (pc := 15) O dX5_isAhead_15 rfl ?_
    refine vm_get (pc := 16) O hR 20 rfl q2063 rfl dX5_isAhead_16 ?_
    refine v_iload_n (pc := 19) O dX5_isAhead_19 rfl ?_
    refine vm_iald (pc := 20) O hR 20 rfl rfl h_a (x := (s 20 a)) rfl dX5_isAhead_20 ?_
    refine v_aload_n (pc := 21) O dX5_isAhead_21 rfl ?_
    refine vm_get (pc := 22) O hR 20 rfl q2063 rfl dX5_isAhead_22 ?_
    refine v_iload_n (pc := 25) O dX5_isAhead_25 rfl ?_
    refine vm_iald (pc := 26) O hR 20 rfl rfl h_b (x := (s 20 b)) rfl dX5_isAhead_26 ?_
    refine v_icmp_ne (pc := 27) (tgt := 49) O dX5_isAhead_27 (by decide) (fun c_27 => ?_) (fun c_27 => ?_)
    · refine v_iconst (pc := 49) O (x := 0) dX5_isAhead_49 (by decide) ?_
      exact v_zret (pc := 50) O hr (Nat.le_refl _) (Nat.le_refl _) dX5_isAhead_50 rfl ⟨_, rfl, ⟨by simp [aheadB, b2i, c_12, c_27], by simpa [aheadB, b2i, c_12, c_27] using hR⟩⟩
    · refine v_aload_n (pc := 30) O dX5_isAhead_30 rfl ?_
      refine vm_get (pc := 31) O hR 25 rfl q2068 rfl dX5_isAhead_31 ?_
      refine v_iload_n (pc := 34) O dX5_isAhead_34 rfl ?_
      refine vm_iald (pc := 35) O hR 25 rfl rfl h_a (x := (s 25 a)) rfl dX5_isAhead_35 ?_
      refine v_aload_n (pc := 36) O dX5_isAhead_36 rfl ?_
      refine vm_get (pc := 37) O hR 25 rfl q2068 rfl dX5_isAhead_37 ?_
      refine v_iload_n (pc := 40) O dX5_isAhead_40 rfl ?_
      refine vm_iald (pc := 41) O hR 25 rfl rfl h_b (x := (s 25 b)) rfl dX5_isAhead_41 ?_
      refine v_icmp_ge (pc := 42) (tgt := 49) O dX5_isAhead_42 (by decide) (fun c_42 => ?_) (fun c_42 => ?_)
      · refine v_iconst (pc := 49) O (x := 0) dX5_isAhead_49 (by decide) ?_
        exact v_zret (pc := 50) O hr (Nat.le_refl _) (Nat.le_refl _) dX5_isAhead_50 rfl ⟨_, rfl, ⟨by simp [aheadB, b2i, c_12, c_27, c_42], by simpa [aheadB, b2i, c_12, c_27, c_42] using hR⟩⟩
      · refine v_iconst (pc := 45) O (x := 1) dX5_isAhead_45 (by decide) ?_
        refine v_goto (pc := 46) O (tgt := 50) dX5_isAhead_46 (by decide) ?_
        exact v_zret (pc := 50) O hr (Nat.le_refl _) (Nat.le_refl _) dX5_isAhead_50 rfl ⟨_, rfl, ⟨by simp [aheadB, b2i, c_12, c_27, c_42], by simpa [aheadB, b2i, c_12, c_27, c_42] using hR⟩⟩
set_option maxHeartbeats 4000000 in
theorem mm_next (l : Launch) (Γ : Gm) (ad : Nat → Nat) (last : Int32) {s : St} {μ0 : Mem} {B : Nat} (hl9 : last = -1 ∨ ir last (nI 40)) (hW : WfM B s) (hR : RepM Γ ad s μ0) : MetV l Γ yX5_next cX5_next 5 (some .int) 2 0 0 [.ref (ad 0), .int last] μ0 (PI (fun r9 μ1 => r9 = (nextF s last) ∧ RepM Γ ad s μ1)) := by
  refine MetV.of (by decide +kernel) rfl ?_
  intro X sz hl hr hnm O
  subst hl
  show V X Γ _ 5 _ 0 0 μ0 0 [(0, .ref (ad 0)), (1, .int last)] []
  refine v_iconst (pc := 0) O (x := -1) dX5_next_0 (by decide) ?_
  refine v_istore_n (pc := 1) (lv' := [(2, .int (-1)), (0, .ref (ad 0)), (1, .int last)]) O dX5_next_1 rfl rfl ?_
  refine v_iconst (pc := 2) O (x := 0) dX5_next_2 (by decide) ?_
  refine v_istore_n (pc := 3) (lv' := [(3, .int 0), (2, .int (-1)), (0, .ref (ad 0)), (1, .int last)]) O dX5_next_3 rfl rfl ?_
  have L4 : ∀ (d4 j4 : Nat) (v4_2 : Int32) (μ : Mem), nat (s 16 0) < d4 + j4 → j4 ≤ nat (s 16 0) → v4_2 = iter (nextStep s last) j4 (-1) → (v4_2 = -1 ∨ ir v4_2 (nI 40)) → RepM Γ ad s μ → V X Γ (gA μ0 sz) 5 (QV X Γ μ0 sz (PI (fun r9 μ1 => r9 = (nextF s last) ∧ RepM Γ ad s μ1)) 0 0) 0 0 μ 4 [(3, .int (nI j4)), (2, .int v4_2), (0, .ref (ad 0)), (1, .int last)] [] := by
    intro d4
    induction d4 with
    | zero => intro j4 v4_2 μ h1 h2; exact absurd h1 (by omega)
    | succ d4 ih4 =>
      intro j4 v4_2 μ hd hj4 he4 hv hR
      refine v_iload_n (pc := 4) O dX5_next_4 rfl ?_
      refine v_aload_n (pc := 5) O dX5_next_5 rfl ?_
      refine vm_geti (pc := 6) O hR 16 rfl q2059 (x := (s 16 0)) rfl rfl dX5_next_6 ?_
      refine v_icmp_ge (pc := 9) (tgt := 74) O dX5_next_9 (by decide) (fun c_9 => ?_) (fun c_9 => ?_)
      · have hx4 := lp_out (nat_eq hW.2.2.2.1.1) (nat_lt _) hj4 c_9
        subst hx4
        refine v_iload_n (pc := 74) O dX5_next_74 rfl ?_
        exact v_iret (pc := 75) O hr (Nat.le_refl _) (Nat.le_refl _) dX5_next_75 ⟨_, rfl, ⟨by simp [nextF, c_9, ← he4], by simpa [nextF, c_9, ← he4] using hR⟩⟩
      · have hj4lt := lp_in (nat_eq hW.2.2.2.1.1) (nat_lt _) hj4 c_9
        refine v_iload_n (pc := 12) O dX5_next_12 rfl ?_
        refine v_iconst (pc := 13) O (x := -1) dX5_next_13 (by decide) ?_
        refine v_icmp_eq (pc := 14) (tgt := 26) O dX5_next_14 (by decide) (fun c_14 => ?_) (fun c_14 => ?_)
        · refine v_iconst (pc := 26) O (x := 1) dX5_next_26 (by decide) ?_
          refine v_goto (pc := 27) O (tgt := 31) dX5_next_27 (by decide) ?_
          refine v_istore (pc := 31) (lv' := [(4, .int 1), (3, .int (nI j4)), (2, .int v4_2), (0, .ref (ad 0)), (1, .int last)]) O dX5_next_31 rfl rfl ?_
          refine v_aload_n (pc := 33) O dX5_next_33 rfl ?_
          refine vm_get (pc := 34) O hR 23 rfl q2066 rfl dX5_next_34 ?_
          refine v_iload_n (pc := 37) O dX5_next_37 rfl ?_
          refine vm_iald (pc := 38) O hR 23 rfl rfl (ir_nI (Nat.lt_of_lt_of_le hj4lt hW.m40) (by decide)) (x := (s 23 (nI j4))) rfl dX5_next_38 ?_
          refine v_iconst (pc := 39) O (x := 2) dX5_next_39 (by decide) ?_
          refine v_icmp_ne (pc := 40) (tgt := 66) O dX5_next_40 (by decide) (fun c_40 => ?_) (fun c_40 => ?_)
          · refine v_iload_n (pc := 66) O dX5_next_66 rfl ?_
            refine v_istore_n (pc := 67) (lv' := [(2, .int v4_2), (4, .int 1), (3, .int (nI j4)), (0, .ref (ad 0)), (1, .int last)]) O dX5_next_67 rfl rfl ?_
            refine v_iinc (pc := 68) (y := (nI (j4 + 1))) (lv' := [(3, .int (nI (j4 + 1))), (2, .int v4_2), (4, .int 1), (0, .ref (ad 0)), (1, .int last)]) O dX5_next_68 rfl (nI_inc _) rfl rfl ?_
            refine v_goto (pc := 71) O (tgt := 4) dX5_next_71 (by decide) ?_
            exact v_locs [0, 1, 3, 4] rfl (ih4 (j4 + 1) v4_2 _ (by omega) (by omega) (by rw [iter_s, ← he4]; simp [nextStep, c_9, c_14, c_40]) hv hR)
          · refine v_iload (pc := 43) O dX5_next_43 rfl ?_
            refine v_if_eq (pc := 45) (tgt := 66) O dX5_next_45 (by decide) (fun c => absurd c (by decide)) (fun _ => ?_)
            refine v_iload_n (pc := 48) O dX5_next_48 rfl ?_
            refine v_iconst (pc := 49) O (x := -1) dX5_next_49 (by decide) ?_
            refine v_icmp_eq (pc := 50) (tgt := 62) O dX5_next_50 (by decide) (fun c_50 => ?_) (fun c_50 => ?_)
            · refine v_iload_n (pc := 62) O dX5_next_62 rfl ?_
              refine v_goto (pc := 63) O (tgt := 67) dX5_next_63 (by decide) ?_
              refine v_istore_n (pc := 67) (lv' := [(2, .int (nI j4)), (4, .int 1), (3, .int (nI j4)), (0, .ref (ad 0)), (1, .int last)]) O dX5_next_67 rfl rfl ?_
              refine v_iinc (pc := 68) (y := (nI (j4 + 1))) (lv' := [(3, .int (nI (j4 + 1))), (2, .int (nI j4)), (4, .int 1), (0, .ref (ad 0)), (1, .int last)]) O dX5_next_68 rfl (nI_inc _) rfl rfl ?_
              refine v_goto (pc := 71) O (tgt := 4) dX5_next_71 (by decide) ?_
              exact v_locs [0, 1, 3, 4] rfl (ih4 (j4 + 1) (nI j4) _ (by omega) (by omega) (by rw [iter_s, ← he4]; simp [nextStep, c_9, c_14, c_40, c_50]) (Or.inr (ir_nI (Nat.lt_of_lt_of_le hj4lt hW.m40) (by decide))) hR)
            · refine v_aload_n (pc := 53) O dX5_next_53 rfl ?_
              refine v_iload_n (pc := 54) O dX5_next_54 rfl ?_
              refine v_iload_n (pc := 55) O dX5_next_55 rfl ?_
              refine v_callVi0 (pc := 56) (nA := 2) O (mm_isAhead (xL X) Γ ad (nI j4) v4_2 (ir_nI (Nat.lt_of_lt_of_le hj4lt hW.m40) (by decide)) (hv.resolve_left c_50) hR) hR.1 rfl q2344 q2346 qs46 q71 q2347 (by decide +kernel) rfl rfl rfl rfl (Nat.le_of_ble_eq_true rfl) (Nat.le_refl _) (Nat.le_refl _) dX5_next_56 (fun x μ h => ?_)
              obtain ⟨rfl, hR⟩ := h
              refine v_if_eq_b (pc := 59) (tgt := 66) O dX5_next_59 (by decide) (fun c_59 => ?_) (fun c_59 => ?_)
              · refine v_iload_n (pc := 66) O dX5_next_66 rfl ?_
                refine v_istore_n (pc := 67) (lv' := [(2, .int v4_2), (4, .int 1), (3, .int (nI j4)), (0, .ref (ad 0)), (1, .int last)]) O dX5_next_67 rfl rfl ?_
                refine v_iinc (pc := 68) (y := (nI (j4 + 1))) (lv' := [(3, .int (nI (j4 + 1))), (2, .int v4_2), (4, .int 1), (0, .ref (ad 0)), (1, .int last)]) O dX5_next_68 rfl (nI_inc _) rfl rfl ?_
                refine v_goto (pc := 71) O (tgt := 4) dX5_next_71 (by decide) ?_
                exact v_locs [0, 1, 3, 4] rfl (ih4 (j4 + 1) v4_2 _ (by omega) (by omega) (by rw [iter_s, ← he4]; simp [nextStep, c_9, c_14, c_40, c_50, c_59]) hv hR)
              · refine v_iload_n (pc := 62) O dX5_next_62 rfl ?_
                refine v_goto (pc := 63) O (tgt := 67) dX5_next_63 (by decide) ?_
                refine v_istore_n (pc := 67) (lv' := [(2, .int (nI j4)), (4, .int 1), (3, .int (nI j4)), (0, .ref (ad 0)), (1, .int last)]) O dX5_next_67 rfl rfl ?_
                refine v_iinc (pc := 68) (y := (nI (j4 + 1))) (lv' := [(3, .int (nI (j4 + 1))), (2, .int (nI j4)), (4, .int 1), (0, .ref (ad 0)), (1, .int last)]) O dX5_next_68 rfl (nI_inc _) rfl rfl ?_
                refine v_goto (pc := 71) O (tgt := 4) dX5_next_71 (by decide) ?_
                exact v_locs [0, 1, 3, 4] rfl (ih4 (j4 + 1) (nI j4) _ (by omega) (by omega) (by rw [iter_s, ← he4]; simp [nextStep, c_9, c_14, c_40, c_50, c_59]) (Or.inr (ir_nI (Nat.lt_of_lt_of_le hj4lt hW.m40) (by decide))) hR)
        · refine v_aload_n (pc := 17) O dX5_next_17 rfl ?_
          refine v_iload_n (pc := 18) O dX5_next_18 rfl ?_
          refine v_iload_n (pc := 19) O dX5_next_19 rfl ?_
          refine v_callVi0 (pc := 20) (nA := 2) O (mm_isAhead (xL X) Γ ad last (nI j4) (hl9.resolve_left c_14) (ir_nI (Nat.lt_of_lt_of_le hj4lt hW.m40) (by decide)) hR) hR.1 rfl q2344 q2346 qs46 q71 q2347 (by decide +kernel) rfl rfl rfl rfl (Nat.le_of_ble_eq_true rfl) (Nat.le_refl _) (Nat.le_refl _) dX5_next_20 (fun x μ h => ?_)
          obtain ⟨rfl, hR⟩ := h
          refine v_if_eq_b (pc := 23) (tgt := 30) O dX5_next_23 (by decide) (fun c_23 => ?_) (fun c_23 => ?_)
          · refine v_iconst (pc := 30) O (x := 0) dX5_next_30 (by decide) ?_
            refine v_istore (pc := 31) (lv' := [(4, .int 0), (3, .int (nI j4)), (2, .int v4_2), (0, .ref (ad 0)), (1, .int last)]) O dX5_next_31 rfl rfl ?_
            refine v_aload_n (pc := 33) O dX5_next_33 rfl ?_
            refine vm_get (pc := 34) O hR 23 rfl q2066 rfl dX5_next_34 ?_
            refine v_iload_n (pc := 37) O dX5_next_37 rfl ?_
            refine vm_iald (pc := 38) O hR 23 rfl rfl (ir_nI (Nat.lt_of_lt_of_le hj4lt hW.m40) (by decide)) (x := (s 23 (nI j4))) rfl dX5_next_38 ?_
            refine v_iconst (pc := 39) O (x := 2) dX5_next_39 (by decide) ?_
            refine v_icmp_ne (pc := 40) (tgt := 66) O dX5_next_40 (by decide) (fun c_40 => ?_) (fun c_40 => ?_)
            · refine v_iload_n (pc := 66) O dX5_next_66 rfl ?_
              refine v_istore_n (pc := 67) (lv' := [(2, .int v4_2), (4, .int 0), (3, .int (nI j4)), (0, .ref (ad 0)), (1, .int last)]) O dX5_next_67 rfl rfl ?_
              refine v_iinc (pc := 68) (y := (nI (j4 + 1))) (lv' := [(3, .int (nI (j4 + 1))), (2, .int v4_2), (4, .int 0), (0, .ref (ad 0)), (1, .int last)]) O dX5_next_68 rfl (nI_inc _) rfl rfl ?_
              refine v_goto (pc := 71) O (tgt := 4) dX5_next_71 (by decide) ?_
              exact v_locs [0, 1, 3, 4] rfl (ih4 (j4 + 1) v4_2 _ (by omega) (by omega) (by rw [iter_s, ← he4]; simp [nextStep, c_9, c_14, c_23, c_40]) hv hR)
            · refine v_iload (pc := 43) O dX5_next_43 rfl ?_
              refine v_if_eq (pc := 45) (tgt := 66) O dX5_next_45 (by decide) (fun _ => ?_) (fun c => absurd (by decide) c)
              refine v_iload_n (pc := 66) O dX5_next_66 rfl ?_
              refine v_istore_n (pc := 67) (lv' := [(2, .int v4_2), (4, .int 0), (3, .int (nI j4)), (0, .ref (ad 0)), (1, .int last)]) O dX5_next_67 rfl rfl ?_
              refine v_iinc (pc := 68) (y := (nI (j4 + 1))) (lv' := [(3, .int (nI (j4 + 1))), (2, .int v4_2), (4, .int 0), (0, .ref (ad 0)), (1, .int last)]) O dX5_next_68 rfl (nI_inc _) rfl rfl ?_
              refine v_goto (pc := 71) O (tgt := 4) dX5_next_71 (by decide) ?_
              exact v_locs [0, 1, 3, 4] rfl (ih4 (j4 + 1) v4_2 _ (by omega) (by omega) (by rw [iter_s, ← he4]; simp [nextStep, c_9, c_14, c_23, c_40]) hv hR)
          · refine v_iconst (pc := 26) O (x := 1) dX5_next_26 (by decide) ?_
            refine v_goto (pc := 27) O (tgt := 31) dX5_next_27 (by decide) ?_
            refine v_istore (pc := 31) (lv' := [(4, .int 1), (3, .int (nI j4)), (2, .int v4_2), (0, .ref (ad 0)), (1, .int last)]) O dX5_next_31 rfl rfl ?_
            refine v_aload_n (pc := 33) O dX5_next_33 rfl ?_
            refine vm_get (pc := 34) O hR 23 rfl q2066 rfl dX5_next_34 ?_
            refine v_iload_n (pc := 37) O dX5_next_37 rfl ?_
            refine vm_iald (pc := 38) O hR 23 rfl rfl (ir_nI (Nat.lt_of_lt_of_le hj4lt hW.m40) (by decide)) (x := (s 23 (nI j4))) rfl dX5_next_38 ?_
            refine v_iconst (pc := 39) O (x := 2) dX5_next_39 (by decide) ?_
            refine v_icmp_ne (pc := 40) (tgt := 66) O dX5_next_40 (by decide) (fun c_40 => ?_) (fun c_40 => ?_)
            · refine v_iload_n (pc := 66) O dX5_next_66 rfl ?_
              refine v_istore_n (pc := 67) (lv' := [(2, .int v4_2), (4, .int 1), (3, .int (nI j4)), (0, .ref (ad 0)), (1, .int last)]) O dX5_next_67 rfl rfl ?_
              refine v_iinc (pc := 68) (y := (nI (j4 + 1))) (lv' := [(3, .int (nI (j4 + 1))), (2, .int v4_2), (4, .int 1), (0, .ref (ad 0)), (1, .int last)]) O dX5_next_68 rfl (nI_inc _) rfl rfl ?_
              refine v_goto (pc := 71) O (tgt := 4) dX5_next_71 (by decide) ?_
              exact v_locs [0, 1, 3, 4] rfl (ih4 (j4 + 1) v4_2 _ (by omega) (by omega) (by rw [iter_s, ← he4]; simp [nextStep, c_9, c_14, c_23, c_40]) hv hR)
            · refine v_iload (pc := 43) O dX5_next_43 rfl ?_
              refine v_if_eq (pc := 45) (tgt := 66) O dX5_next_45 (by decide) (fun c => absurd c (by decide)) (fun _ => ?_)
              refine v_iload_n (pc := 48) O dX5_next_48 rfl ?_
              refine v_iconst (pc := 49) O (x := -1) dX5_next_49 (by decide) ?_
              refine v_icmp_eq (pc := 50) (tgt := 62) O dX5_next_50 (by decide) (fun c_50 => ?_) (fun c_50 => ?_)
              · refine v_iload_n (pc := 62) O dX5_next_62 rfl ?_
                refine v_goto (pc := 63) O (tgt := 67) dX5_next_63 (by decide) ?_
                refine v_istore_n (pc := 67) (lv' := [(2, .int (nI j4)), (4, .int 1), (3, .int (nI j4)), (0, .ref (ad 0)), (1, .int last)]) O dX5_next_67 rfl rfl ?_
                refine v_iinc (pc := 68) (y := (nI (j4 + 1))) (lv' := [(3, .int (nI (j4 + 1))), (2, .int (nI j4)), (4, .int 1), (0, .ref (ad 0)), (1, .int last)]) O dX5_next_68 rfl (nI_inc _) rfl rfl ?_
                refine v_goto (pc := 71) O (tgt := 4) dX5_next_71 (by decide) ?_
                exact v_locs [0, 1, 3, 4] rfl (ih4 (j4 + 1) (nI j4) _ (by omega) (by omega) (by rw [iter_s, ← he4]; simp [nextStep, c_9, c_14, c_23, c_40, c_50]) (Or.inr (ir_nI (Nat.lt_of_lt_of_le hj4lt hW.m40) (by decide))) hR)
              · refine v_aload_n (pc := 53) O dX5_next_53 rfl ?_
                refine v_iload_n (pc := 54) O dX5_next_54 rfl ?_
                refine v_iload_n (pc := 55) O dX5_next_55 rfl ?_
                refine v_callVi0 (pc := 56) (nA := 2) O (mm_isAhead (xL X) Γ ad (nI j4) v4_2 (ir_nI (Nat.lt_of_lt_of_le hj4lt hW.m40) (by decide)) (hv.resolve_left c_50) hR) hR.1 rfl q2344 q2346 qs46 q71 q2347 (by decide +kernel) rfl rfl rfl rfl (Nat.le_of_ble_eq_true rfl) (Nat.le_refl _) (Nat.le_refl _) dX5_next_56 (fun x μ h => ?_)
                obtain ⟨rfl, hR⟩ := h
                refine v_if_eq_b (pc := 59) (tgt := 66) O dX5_next_59 (by decide) (fun c_59 => ?_) (fun c_59 => ?_)
                · refine v_iload_n (pc := 66) O dX5_next_66 rfl ?_
                  refine v_istore_n (pc := 67) (lv' := [(2, .int v4_2), (4, .int 1), (3, .int (nI j4)), (0, .ref (ad 0)), (1, .int last)]) O dX5_next_67 rfl rfl ?_
                  refine v_iinc (pc := 68) (y := (nI (j4 + 1))) (lv' := [(3, .int (nI (j4 + 1))), (2, .int v4_2), (4, .int 1), (0, .ref (ad 0)), (1, .int last)]) O dX5_next_68 rfl (nI_inc _) rfl rfl ?_
                  refine v_goto (pc := 71) O (tgt := 4) dX5_next_71 (by decide) ?_
                  exact v_locs [0, 1, 3, 4] rfl (ih4 (j4 + 1) v4_2 _ (by omega) (by omega) (by rw [iter_s, ← he4]; simp [nextStep, c_9, c_14, c_23, c_40, c_50, c_59]) hv hR)
                · refine v_iload_n (pc := 62) O dX5_next_62 rfl ?_
                  refine v_goto (pc := 63) O (tgt := 67) dX5_next_63 (by decide) ?_
                  refine v_istore_n (pc := 67) (lv' := [(2, .int (nI j4)), (4, .int 1), (3, .int (nI j4)), (0, .ref (ad 0)), (1, .int last)]) O dX5_next_67 rfl rfl ?_
                  refine v_iinc (pc := 68) (y := (nI (j4 + 1))) (lv' := [(3, .int (nI (j4 + 1))), (2, .int (nI j4)), (4, .int 1), (0, .ref (ad 0)), (1, .int last)]) O dX5_next_68 rfl (nI_inc _) rfl rfl ?_
                  refine v_goto (pc := 71) O (tgt := 4) dX5_next_71 (by decide) ?_
                  exact v_locs [0, 1, 3, 4] rfl (ih4 (j4 + 1) (nI j4) _ (by omega) (by omega) (by rw [iter_s, ← he4]; simp [nextStep, c_9, c_14, c_23, c_40, c_50, c_59]) (Or.inr (ir_nI (Nat.lt_of_lt_of_le hj4lt hW.m40) (by decide))) hR)
  exact v_locs [0, 1, 2, 3] rfl (L4 (nat (s 16 0) + 1) 0 (-1) _ (by omega) (by omega) iter_0.symm (Or.inl rfl) hR)
set_option maxHeartbeats 4000000 in
theorem mm_order (l : Launch) (Γ : Gm) (ad : Nat → Nat) (p : Int32) {s : St} {μ0 : Mem} {B : Nat} (hW : WfM B s) (hR : RepM Γ ad s μ0) : MetV l Γ yX5_order cX5_order 4 (some .int) 3 0 0 [.ref (ad 0), .int p] μ0 (PI (fun r9 μ1 => r9 = (orderO s p).2 ∧ RepM Γ ad ((orderO s p).1) μ1)) := by
  refine MetV.of (by decide +kernel) rfl ?_
  intro X sz hl hr hnm O
  subst hl
  show V X Γ _ 4 _ 0 0 μ0 0 [(0, .ref (ad 0)), (1, .int p)] []
  refine v_aload_n (pc := 0) O dX5_order_0 rfl ?_
  refine v_iload_n (pc := 1) O dX5_order_1 rfl ?_
  refine v_if_ge (pc := 2) (tgt := 9) O dX5_order_2 (by decide) (fun c_2 => ?_) (fun c_2 => ?_)
  · have hP := nat_eq c_2
    refine v_iconst (pc := 9) O (x := 0) dX5_order_9 (by decide) ?_
    refine vm_put (pc := 10) O hR 31 (by decide) q2074 dX5_order_10 (fun μ hR => ?_)
    refine v_aload_n (pc := 13) O dX5_order_13 rfl ?_
    refine vm_geti (pc := 14) O hR 31 rfl q2074 (x := 0) rfl sset_eq dX5_order_14 ?_
    refine v_if_ne (pc := 17) (tgt := 28) O dX5_order_17 (by decide) (fun c => absurd (by decide) c) (fun _ => ?_)
    refine v_aload_n (pc := 20) O dX5_order_20 rfl ?_
    refine v_iconst (pc := 21) O (x := -1) dX5_order_21 (by decide) ?_
    refine v_callVi0 (pc := 22) (nA := 1) O (mm_next (xL X) Γ ad (-1) (Or.inl rfl) (WfM.oth hW (by decide)) hR) hR.1 rfl q2340 q2342 qs45 q71 q2343 (by decide +kernel) rfl rfl rfl rfl (Nat.le_of_ble_eq_true rfl) (Nat.le_refl _) (Nat.le_refl _) dX5_order_22 (fun x μ h => ?_)
    obtain ⟨hx, hR⟩ := h
    rw [next_oth (by decide) (by decide) (by decide) (by decide)] at hx
    subst hx
    refine v_goto (pc := 25) O (tgt := 29) dX5_order_25 (by decide) ?_
    refine v_istore_n (pc := 29) (lv' := [(2, .int (nextF s (-1))), (0, .ref (ad 0)), (1, .int p)]) O dX5_order_29 rfl rfl ?_
    refine v_iconst (pc := 30) O (x := 0) dX5_order_30 (by decide) ?_
    refine v_istore_n (pc := 31) (lv' := [(3, .int 0), (2, .int (nextF s (-1))), (0, .ref (ad 0)), (1, .int p)]) O dX5_order_31 rfl rfl ?_
    have L32 : ∀ (d32 j32 : Nat) (v32_2 : Int32) (μ : Mem), nat p < d32 + j32 → j32 ≤ nat p → orderGo s (nat p) (nextF s (-1)) = orderGo s (nat p - j32) v32_2 → (v32_2 = -1 ∨ ir v32_2 (nI 40)) → RepM Γ ad (sset s 31 0 0) μ → V X Γ (gA μ0 sz) 4 (QV X Γ μ0 sz (PI (fun r9 μ1 => r9 = (orderO s p).2 ∧ RepM Γ ad ((orderO s p).1) μ1)) 0 0) 0 0 μ 32 [(3, .int (nI j32)), (2, .int v32_2), (0, .ref (ad 0)), (1, .int p)] [] := by
      intro d32
      induction d32 with
      | zero => intro j32 v32_2 μ h1 h2; exact absurd h1 (by omega)
      | succ d32 ih32 =>
        intro j32 v32_2 μ hd hj32 he32 hv hR
        refine v_iload_n (pc := 32) O dX5_order_32 rfl ?_
        refine v_iload_n (pc := 33) O dX5_order_33 rfl ?_
        refine v_icmp_ge (pc := 34) (tgt := 54) O dX5_order_34 (by decide) (fun c_34 => ?_) (fun c_34 => ?_)
        · have hx := lp_out hP (nat_lt _) hj32 c_34
          subst hx
          have hf : orderGo s (nat p) (nextF s (-1)) = v32_2 := by rw [he32, Nat.sub_self, orderGo_0]
          refine v_aload_n (pc := 54) O dX5_order_54 rfl ?_
          refine vm_geti (pc := 55) O hR 31 rfl q2074 (x := 0) rfl sset_eq dX5_order_55 ?_
          refine v_if_ne (pc := 58) (tgt := 65) O dX5_order_58 (by decide) (fun c => absurd (by decide) c) (fun _ => ?_)
          refine v_iload_n (pc := 61) O dX5_order_61 rfl ?_
          refine v_goto (pc := 62) O (tgt := 66) dX5_order_62 (by decide) ?_
          exact v_iret (pc := 66) O hr (Nat.le_refl _) (Nat.le_refl _) dX5_order_66 ⟨_, rfl, ⟨by simp [orderO, c_2, hf], by simpa [orderO, c_2] using hR⟩⟩
        · have hj32lt := lp_in hP (nat_lt _) hj32 c_34
          refine v_iload_n (pc := 37) O dX5_order_37 rfl ?_
          refine v_iconst (pc := 38) O (x := -1) dX5_order_38 (by decide) ?_
          refine v_icmp_eq (pc := 39) (tgt := 54) O dX5_order_39 (by decide) (fun c_39 => ?_) (fun c_39 => ?_)
          · have hf : orderGo s (nat p) (nextF s (-1)) = -1 := by rw [he32, c_39]; exact order_stop _
            refine v_aload_n (pc := 54) O dX5_order_54 rfl ?_
            refine vm_geti (pc := 55) O hR 31 rfl q2074 (x := 0) rfl sset_eq dX5_order_55 ?_
            refine v_if_ne (pc := 58) (tgt := 65) O dX5_order_58 (by decide) (fun c => absurd (by decide) c) (fun _ => ?_)
            refine v_iload_n (pc := 61) O dX5_order_61 rfl ?_
            refine v_goto (pc := 62) O (tgt := 66) dX5_order_62 (by decide) ?_
            exact v_iret (pc := 66) O hr (Nat.le_refl _) (Nat.le_refl _) dX5_order_66 ⟨_, rfl, ⟨by simp [orderO, c_2, hf, c_39], by simpa [orderO, c_2] using hR⟩⟩
          · have h9_v32_2 : v32_2 = -1 ∨ ir v32_2 (nI 40) := hv
            refine v_aload_n (pc := 42) O dX5_order_42 rfl ?_
            refine v_iload_n (pc := 43) O dX5_order_43 rfl ?_
            refine v_callVi0 (pc := 44) (nA := 1) O (mm_next (xL X) Γ ad v32_2 h9_v32_2 (WfM.oth hW (by decide)) hR) hR.1 rfl q2340 q2342 qs45 q71 q2343 (by decide +kernel) rfl rfl rfl rfl (Nat.le_of_ble_eq_true rfl) (Nat.le_refl _) (Nat.le_refl _) dX5_order_44 (fun x μ h => ?_)
            obtain ⟨hx, hR⟩ := h
            rw [next_oth (by decide) (by decide) (by decide) (by decide)] at hx
            subst hx
            refine v_istore_n (pc := 47) (lv' := [(2, .int (nextF s v32_2)), (3, .int (nI j32)), (0, .ref (ad 0)), (1, .int p)]) O dX5_order_47 rfl rfl ?_
            refine v_iinc (pc := 48) (y := (nI (j32 + 1))) (lv' := [(3, .int (nI (j32 + 1))), (2, .int (nextF s v32_2)), (0, .ref (ad 0)), (1, .int p)]) O dX5_order_48 rfl (nI_inc _) rfl rfl ?_
            refine v_goto (pc := 51) O (tgt := 32) dX5_order_51 (by decide) ?_
            exact v_locs [0, 1, 2, 3] rfl (ih32 (j32 + 1) (nextF s v32_2) _ (by omega) (by omega) (he32.trans (order_step hj32lt c_39)) (nextF_ir hW) hR)
    exact v_locs [0, 1, 2, 3] rfl (L32 (nat p + 1) 0 (nextF s (-1)) _ (by omega) (by omega) rfl (nextF_ir hW) hR)
  · refine v_iconst (pc := 5) O (x := 1) dX5_order_5 (by decide) ?_
    refine v_goto (pc := 6) O (tgt := 10) dX5_order_6 (by decide) ?_
    refine vm_put (pc := 10) O hR 31 (by decide) q2074 dX5_order_10 (fun μ hR => ?_)
    refine v_aload_n (pc := 13) O dX5_order_13 rfl ?_
    refine vm_geti (pc := 14) O hR 31 rfl q2074 (x := 1) rfl sset_eq dX5_order_14 ?_
    refine v_if_ne (pc := 17) (tgt := 28) O dX5_order_17 (by decide) (fun _ => ?_) (fun c => absurd c (by decide))
    refine v_iconst (pc := 28) O (x := -1) dX5_order_28 (by decide) ?_
    refine v_istore_n (pc := 29) (lv' := [(2, .int (-1)), (0, .ref (ad 0)), (1, .int p)]) O dX5_order_29 rfl rfl ?_
    refine v_iconst (pc := 30) O (x := 0) dX5_order_30 (by decide) ?_
    refine v_istore_n (pc := 31) (lv' := [(3, .int 0), (2, .int (-1)), (0, .ref (ad 0)), (1, .int p)]) O dX5_order_31 rfl rfl ?_
    refine v_iload_n (pc := 32) O dX5_order_32 rfl ?_
    refine v_iload_n (pc := 33) O dX5_order_33 rfl ?_
    refine v_icmp_ge (pc := 34) (tgt := 54) O dX5_order_34 (by decide) (fun c_34 => ?_) (fun c_34 => ?_)
    · refine v_aload_n (pc := 54) O dX5_order_54 rfl ?_
      refine vm_geti (pc := 55) O hR 31 rfl q2074 (x := 1) rfl sset_eq dX5_order_55 ?_
      refine v_if_ne (pc := 58) (tgt := 65) O dX5_order_58 (by decide) (fun _ => ?_) (fun c => absurd c (by decide))
      refine v_iconst (pc := 65) O (x := 0) dX5_order_65 (by decide) ?_
      exact v_iret (pc := 66) O hr (Nat.le_refl _) (Nat.le_refl _) dX5_order_66 ⟨_, rfl, ⟨by simp [orderO, c_2], by simpa [orderO, c_2] using hR⟩⟩
    · refine v_iload_n (pc := 37) O dX5_order_37 rfl ?_
      refine v_iconst (pc := 38) O (x := -1) dX5_order_38 (by decide) ?_
      refine v_icmp_eq (pc := 39) (tgt := 54) O dX5_order_39 (by decide) (fun _ => ?_) (fun c => absurd (by decide) c)
      refine v_aload_n (pc := 54) O dX5_order_54 rfl ?_
      refine vm_geti (pc := 55) O hR 31 rfl q2074 (x := 1) rfl sset_eq dX5_order_55 ?_
      refine v_if_ne (pc := 58) (tgt := 65) O dX5_order_58 (by decide) (fun _ => ?_) (fun c => absurd c (by decide))
      refine v_iconst (pc := 65) O (x := 0) dX5_order_65 (by decide) ?_
      exact v_iret (pc := 66) O hr (Nat.le_refl _) (Nat.le_refl _) dX5_order_66 ⟨_, rfl, ⟨by simp [orderO, c_2], by simpa [orderO, c_2] using hR⟩⟩
theorem feed_out {p : Int32} {j : Nat} (hP : p = nI (nat p)) (hj : j ≤ nat p + 1) (h1 : j ≤ 2000) (c : p < nI j) : j = nat p + 1 := by
  have := nat_lt p
  rw [hP, i_lt, nI_toInt this, nI_toInt (by omega)] at c
  omega
theorem feed_in {p : Int32} {j : Nat} (hP : p = nI (nat p)) (h1 : j ≤ 2000) (c : ¬ p < nI j) : j ≤ nat p := by
  have := nat_lt p
  rw [hP, i_lt, nI_toInt this, nI_toInt (by omega)] at c
  omega
theorem feed_step {σ : St} {st last : Int32} {P j : Nat} (hj : j ≤ P) : feedGo σ st (P + 1 - j) last = if feedNext σ st last = -1 then -1 else feedGo σ st (P + 1 - (j + 1)) (feedNext σ st last) := by
  rw [show P + 1 - j = (P + 1 - (j + 1)) + 1 by omega, feedGo_s]
theorem fCnt_1000 {B : Nat} {σ : St} {last : Int32} (h : WfM B σ) (hB : B ≤ 1000) : fCnt σ last ≤ 1000 := by
  have h1 := cntP_n (p := fun k => !decide (itsF σ k ≤ last)) (nat (σ 12 0))
  have h2 := h.2.2.2.2.2.2.2
  unfold fCnt
  omega
set_option maxHeartbeats 4000000 in
theorem mm_feed (l : Launch) (Γ : Gm) (ad : Nat → Nat) (p : Int32) {s : St} {μ0 : Mem} {B : Nat} (hB : B ≤ 1000) (hW : WfM B s) (hR : RepM Γ ad s μ0) : MetV l Γ yX5_feed cX5_feed 8 (some .int) 4 0 0 [.ref (ad 0), .int p] μ0 (PI (fun r9 μ1 => r9 = (feedO s p).2 ∧ RepM Γ ad ((feedO s p).1) μ1)) := by
  refine MetV.of (by decide +kernel) rfl ?_
  intro X sz hl hr hnm O
  subst hl
  show V X Γ _ 8 _ 0 0 μ0 0 [(0, .ref (ad 0)), (1, .int p)] []
  refine v_aload_n (pc := 0) O dX5_feed_0 rfl ?_
  refine v_iload_n (pc := 1) O dX5_feed_1 rfl ?_
  refine v_if_ge (pc := 2) (tgt := 9) O dX5_feed_2 (by decide) (fun c_2 => ?_) (fun c_2 => ?_)
  · have hP := nat_eq c_2
    refine v_iconst (pc := 9) O (x := 0) dX5_feed_9 (by decide) ?_
    refine vm_put (pc := 10) O hR 31 (by decide) q2074 dX5_feed_10 (fun μ hR => ?_)
    refine v_iconst (pc := 13) O (x := -1) dX5_feed_13 (by decide) ?_
    refine v_istore_n (pc := 14) (lv' := [(2, .int (-1)), (0, .ref (ad 0)), (1, .int p)]) O dX5_feed_14 rfl rfl ?_
    refine v_aload_n (pc := 15) O dX5_feed_15 rfl ?_
    refine v_callVi0 (pc := 16) (nA := 0) O (mm_resolvedNow (xL X) Γ ad (WfM.oth hW (by decide)) hR) hR.1 rfl q2328 q2330 qs44 q71 q2331 (by decide +kernel) rfl rfl rfl rfl (Nat.le_of_ble_eq_true rfl) (Nat.le_refl _) (Nat.le_refl _) dX5_feed_16 (fun x μ h => ?_)
    obtain ⟨hx, hR⟩ := h
    rw [rsv_oth (by decide) (by decide) (by decide) (by decide)] at hx
    subst hx
    refine v_istore_n (pc := 19) (lv' := [(3, .int (resolvedF s)), (2, .int (-1)), (0, .ref (ad 0)), (1, .int p)]) O dX5_feed_19 rfl rfl ?_
    refine v_iconst (pc := 20) O (x := 0) dX5_feed_20 (by decide) ?_
    refine v_istore (pc := 21) (lv' := [(4, .int 0), (3, .int (resolvedF s)), (2, .int (-1)), (0, .ref (ad 0)), (1, .int p)]) O dX5_feed_21 rfl rfl ?_
    have L23 : ∀ (d23 : Nat) (v23_2 : Int32) (j23 : Nat) (μ : Mem), fCnt s v23_2 < d23 → j23 ≤ 2000 → j23 + fCnt s v23_2 ≤ 1000 → j23 ≤ nat p + 1 → feedGo s (resolvedF s) (nat p + 1) (-1) = feedGo s (resolvedF s) (nat p + 1 - j23) v23_2 → RepM Γ ad (sset s 31 0 0) μ → V X Γ (gA μ0 sz) 8 (QV X Γ μ0 sz (PI (fun r9 μ1 => r9 = (feedO s p).2 ∧ RepM Γ ad ((feedO s p).1) μ1)) 0 0) 0 0 μ 23 [(4, .int (nI j23)), (3, .int (resolvedF s)), (2, .int v23_2), (0, .ref (ad 0)), (1, .int p)] [] := by
      intro d23
      induction d23 with
      | zero =>
        intro v23_2 j23 μ hd hj1 hjc hj23 he23 hR
        exact absurd hd (by omega)
      | succ d23 ih23 =>
        intro v23_2 j23 μ hd hj1 hjc hj23 he23 hR
        refine v_iload (pc := 23) O dX5_feed_23 rfl ?_
        refine v_iload_n (pc := 25) O dX5_feed_25 rfl ?_
        refine v_icmp_gt (pc := 26) (tgt := 133) O dX5_feed_26 (by decide) (fun c_26 => ?_) (fun c_26 => ?_)
        · have hx : j23 = nat p + 1 := feed_out hP hj23 hj1 c_26
          have hf : feedGo s (resolvedF s) (nat p + 1) (-1) = v23_2 := by rw [he23, hx, Nat.sub_self, feedGo_0]
          refine v_aload_n (pc := 133) O dX5_feed_133 rfl ?_
          refine vm_geti (pc := 134) O hR 31 rfl q2074 (x := 0) rfl sset_eq dX5_feed_134 ?_
          refine v_if_ne (pc := 137) (tgt := 144) O dX5_feed_137 (by decide) (fun c => absurd (by decide) c) (fun _ => ?_)
          refine v_iload_n (pc := 140) O dX5_feed_140 rfl ?_
          refine v_goto (pc := 141) O (tgt := 145) dX5_feed_141 (by decide) ?_
          exact v_iret (pc := 145) O hr (Nat.le_refl _) (Nat.le_refl _) dX5_feed_145 ⟨_, rfl, ⟨by simp [feedO, c_2, hf], by simpa [feedO, c_2] using hR⟩⟩
        · have hj23lt : j23 ≤ nat p := feed_in hP hj1 c_26
          refine v_aload_n (pc := 29) O dX5_feed_29 rfl ?_
          refine vm_geti (pc := 30) O hR 31 rfl q2074 (x := 0) rfl sset_eq dX5_feed_30 ?_
          refine v_if_ne (pc := 33) (tgt := 133) O dX5_feed_33 (by decide) (fun c => absurd (by decide) c) (fun _ => ?_)
          refine v_iconst (pc := 36) O (x := -1) dX5_feed_36 (by decide) ?_
          refine v_istore (pc := 37) (lv' := [(5, .int (-1)), (4, .int (nI j23)), (3, .int (resolvedF s)), (2, .int v23_2), (0, .ref (ad 0)), (1, .int p)]) O dX5_feed_37 rfl rfl ?_
          refine v_iconst (pc := 39) O (x := 0) dX5_feed_39 (by decide) ?_
          refine v_istore (pc := 40) (lv' := [(6, .int 0), (5, .int (-1)), (4, .int (nI j23)), (3, .int (resolvedF s)), (2, .int v23_2), (0, .ref (ad 0)), (1, .int p)]) O dX5_feed_40 rfl rfl ?_
          have L42 : ∀ (d42 j42 : Nat) (v42_5 : Int32) (μ : Mem), nat (s 12 0) < d42 + j42 → j42 ≤ nat (s 12 0) → v42_5 = iter (feedStep s (resolvedF s) v23_2) j42 (-1) → RepM Γ ad (sset s 31 0 0) μ → V X Γ (gA μ0 sz) 8 (QV X Γ μ0 sz (PI (fun r9 μ1 => r9 = (feedO s p).2 ∧ RepM Γ ad ((feedO s p).1) μ1)) 0 0) 0 0 μ 42 [(6, .int (nI j42)), (5, .int v42_5), (4, .int (nI j23)), (3, .int (resolvedF s)), (2, .int v23_2), (0, .ref (ad 0)), (1, .int p)] [] := by
            intro d42
            induction d42 with
            | zero => intro j42 v42_5 μ h1 h2; exact absurd h1 (by omega)
            | succ d42 ih42 =>
              intro j42 v42_5 μ hd hj42 he42  hR
              refine v_iload (pc := 42) O dX5_feed_42 rfl ?_
              refine v_aload_n (pc := 44) O dX5_feed_44 rfl ?_
              refine vm_geti (pc := 45) O hR 12 rfl q2055 (x := (s 12 0)) rfl ((sset_f (by decide)).trans rfl) dX5_feed_45 ?_
              refine v_icmp_ge (pc := 48) (tgt := 116) O dX5_feed_48 (by decide) (fun c_48 => ?_) (fun c_48 => ?_)
              · have hx42 := lp_out (nat_eq hW.2.2.2.2.2.2.1) (nat_lt _) hj42 c_48
                subst hx42
                have hn42 : v42_5 = feedNext s (resolvedF s) v23_2 := he42
                refine v_iload (pc := 116) O dX5_feed_116 rfl ?_
                refine v_iconst (pc := 118) O (x := -1) dX5_feed_118 (by decide) ?_
                refine v_icmp_ne (pc := 119) (tgt := 124) O dX5_feed_119 (by decide) (fun c_119 => ?_) (fun c_119 => ?_)
                · have hlt := fCnt_lt (σ := s) (st := resolvedF s) (last := v23_2) (by rw [← hn42]; exact c_119)
                  refine v_iload (pc := 124) O dX5_feed_124 rfl ?_
                  refine v_istore_n (pc := 126) (lv' := [(2, .int v42_5), (6, .int (nI (nat (s 12 0)))), (5, .int v42_5), (4, .int (nI j23)), (3, .int (resolvedF s)), (0, .ref (ad 0)), (1, .int p)]) O dX5_feed_126 rfl rfl ?_
                  refine v_iinc (pc := 127) (y := (nI (j23 + 1))) (lv' := [(4, .int (nI (j23 + 1))), (2, .int v42_5), (6, .int (nI (nat (s 12 0)))), (5, .int v42_5), (3, .int (resolvedF s)), (0, .ref (ad 0)), (1, .int p)]) O dX5_feed_127 rfl (nI_inc _) rfl rfl ?_
                  refine v_goto (pc := 130) O (tgt := 23) dX5_feed_130 (by decide) ?_
                  exact v_locs [0, 4, 1, 5, 6] rfl (ih23 v42_5 (j23 + 1) μ (by rw [hn42]; omega) (by omega) (by rw [hn42]; omega) (by omega) (by rw [he23, feed_step hj23lt, ← hn42, if_neg c_119]) hR)
                · have hf : feedGo s (resolvedF s) (nat p + 1) (-1) = -1 := by rw [he23, feed_step hj23lt, ← hn42, if_pos c_119]
                  refine v_iconst (pc := 122) O (x := -1) dX5_feed_122 (by decide) ?_
                  exact v_iret (pc := 123) O hr (Nat.le_refl _) (Nat.le_refl _) dX5_feed_123 ⟨_, rfl, ⟨by simp [feedO, c_2, hf], by simpa [feedO, c_2] using hR⟩⟩
              · have hj42lt := lp_in (nat_eq hW.2.2.2.2.2.2.1) (nat_lt _) hj42 c_48
                refine v_bipush (pc := 51) O (x := 32) dX5_feed_51 (by decide) ?_
                refine v_aload_n (pc := 53) O dX5_feed_53 rfl ?_
                refine vm_get (pc := 54) O hR 14 rfl q2057 rfl dX5_feed_54 ?_
                refine v_iload (pc := 57) O dX5_feed_57 rfl ?_
                refine vm_iald (pc := 59) O hR 14 rfl rfl (ir_nI (Nat.lt_of_lt_of_le hj42lt (hW.v13 hB)) (by decide)) (x := (s 14 (nI j42))) ((sset_f (by decide)).trans rfl) dX5_feed_59 ?_
                refine v_imul (pc := 60) O dX5_feed_60 ?_
                refine v_aload_n (pc := 61) O dX5_feed_61 rfl ?_
                refine vm_get (pc := 62) O hR 13 rfl q2056 rfl dX5_feed_62 ?_
                refine v_iload (pc := 65) O dX5_feed_65 rfl ?_
                refine vm_iald (pc := 67) O hR 13 rfl rfl (ir_nI (Nat.lt_of_lt_of_le hj42lt (hW.v13 hB)) (by decide)) (x := (s 13 (nI j42))) ((sset_f (by decide)).trans rfl) dX5_feed_67 ?_
                refine v_iadd (pc := 68) O dX5_feed_68 ?_
                refine v_istore (pc := 69) (lv' := [(7, .int ((32 * (s 14 (nI j42))) + (s 13 (nI j42)))), (6, .int (nI j42)), (5, .int v42_5), (4, .int (nI j23)), (3, .int (resolvedF s)), (2, .int v23_2), (0, .ref (ad 0)), (1, .int p)]) O dX5_feed_69 rfl rfl ?_
                refine v_aload_n (pc := 71) O dX5_feed_71 rfl ?_
                refine vm_get (pc := 72) O hR 14 rfl q2057 rfl dX5_feed_72 ?_
                refine v_iload (pc := 75) O dX5_feed_75 rfl ?_
                refine vm_iald (pc := 77) O hR 14 rfl rfl (ir_nI (Nat.lt_of_lt_of_le hj42lt (hW.v13 hB)) (by decide)) (x := (s 14 (nI j42))) ((sset_f (by decide)).trans rfl) dX5_feed_77 ?_
                refine v_iload_n (pc := 78) O dX5_feed_78 rfl ?_
                refine v_icmp_gt (pc := 79) (tgt := 106) O dX5_feed_79 (by decide) (fun c_79 => ?_) (fun c_79 => ?_)
                · refine v_iload (pc := 106) O dX5_feed_106 rfl ?_
                  refine v_istore (pc := 108) (lv' := [(5, .int v42_5), (7, .int ((32 * (s 14 (nI j42))) + (s 13 (nI j42)))), (6, .int (nI j42)), (4, .int (nI j23)), (3, .int (resolvedF s)), (2, .int v23_2), (0, .ref (ad 0)), (1, .int p)]) O dX5_feed_108 rfl rfl ?_
                  refine v_iinc (pc := 110) (y := (nI (j42 + 1))) (lv' := [(6, .int (nI (j42 + 1))), (5, .int v42_5), (7, .int ((32 * (s 14 (nI j42))) + (s 13 (nI j42)))), (4, .int (nI j23)), (3, .int (resolvedF s)), (2, .int v23_2), (0, .ref (ad 0)), (1, .int p)]) O dX5_feed_110 rfl (nI_inc _) rfl rfl ?_
                  refine v_goto (pc := 113) O (tgt := 42) dX5_feed_113 (by decide) ?_
                  exact v_locs [0, 1, 3, 4, 5, 6, 7] rfl (ih42 (j42 + 1) v42_5 _ (by omega) (by omega) (by rw [iter_s, ← he42]; simp [feedStep, c_48, c_79])  hR)
                · refine v_iload (pc := 82) O dX5_feed_82 rfl ?_
                  refine v_iload_n (pc := 84) O dX5_feed_84 rfl ?_
                  refine v_icmp_le (pc := 85) (tgt := 106) O dX5_feed_85 (by decide) (fun c_85 => ?_) (fun c_85 => ?_)
                  · refine v_iload (pc := 106) O dX5_feed_106 rfl ?_
                    refine v_istore (pc := 108) (lv' := [(5, .int v42_5), (7, .int ((32 * (s 14 (nI j42))) + (s 13 (nI j42)))), (6, .int (nI j42)), (4, .int (nI j23)), (3, .int (resolvedF s)), (2, .int v23_2), (0, .ref (ad 0)), (1, .int p)]) O dX5_feed_108 rfl rfl ?_
                    refine v_iinc (pc := 110) (y := (nI (j42 + 1))) (lv' := [(6, .int (nI (j42 + 1))), (5, .int v42_5), (7, .int ((32 * (s 14 (nI j42))) + (s 13 (nI j42)))), (4, .int (nI j23)), (3, .int (resolvedF s)), (2, .int v23_2), (0, .ref (ad 0)), (1, .int p)]) O dX5_feed_110 rfl (nI_inc _) rfl rfl ?_
                    refine v_goto (pc := 113) O (tgt := 42) dX5_feed_113 (by decide) ?_
                    exact v_locs [0, 1, 3, 4, 5, 6, 7] rfl (ih42 (j42 + 1) v42_5 _ (by omega) (by omega) (by rw [iter_s, ← he42]; simp [feedStep, c_48, c_79, c_85])  hR)
                  · refine v_iload (pc := 88) O dX5_feed_88 rfl ?_
                    refine v_iconst (pc := 90) O (x := -1) dX5_feed_90 (by decide) ?_
                    refine v_icmp_eq (pc := 91) (tgt := 101) O dX5_feed_91 (by decide) (fun c_91 => ?_) (fun c_91 => ?_)
                    · refine v_iload (pc := 101) O dX5_feed_101 rfl ?_
                      refine v_goto (pc := 103) O (tgt := 108) dX5_feed_103 (by decide) ?_
                      refine v_istore (pc := 108) (lv' := [(5, .int ((32 * (s 14 (nI j42))) + (s 13 (nI j42)))), (7, .int ((32 * (s 14 (nI j42))) + (s 13 (nI j42)))), (6, .int (nI j42)), (4, .int (nI j23)), (3, .int (resolvedF s)), (2, .int v23_2), (0, .ref (ad 0)), (1, .int p)]) O dX5_feed_108 rfl rfl ?_
                      refine v_iinc (pc := 110) (y := (nI (j42 + 1))) (lv' := [(6, .int (nI (j42 + 1))), (5, .int ((32 * (s 14 (nI j42))) + (s 13 (nI j42)))), (7, .int ((32 * (s 14 (nI j42))) + (s 13 (nI j42)))), (4, .int (nI j23)), (3, .int (resolvedF s)), (2, .int v23_2), (0, .ref (ad 0)), (1, .int p)]) O dX5_feed_110 rfl (nI_inc _) rfl rfl ?_
                      refine v_goto (pc := 113) O (tgt := 42) dX5_feed_113 (by decide) ?_
                      exact v_locs [0, 1, 3, 4, 5, 6, 7] rfl (ih42 (j42 + 1) ((32 * (s 14 (nI j42))) + (s 13 (nI j42))) _ (by omega) (by omega) (by rw [iter_s, ← he42]; simp [feedStep, c_48, c_79, c_85, c_91])  hR)
                    · refine v_iload (pc := 94) O dX5_feed_94 rfl ?_
                      refine v_iload (pc := 96) O dX5_feed_96 rfl ?_
                      refine v_icmp_ge (pc := 98) (tgt := 106) O dX5_feed_98 (by decide) (fun c_98 => ?_) (fun c_98 => ?_)
                      · refine v_iload (pc := 106) O dX5_feed_106 rfl ?_
                        refine v_istore (pc := 108) (lv' := [(5, .int v42_5), (7, .int ((32 * (s 14 (nI j42))) + (s 13 (nI j42)))), (6, .int (nI j42)), (4, .int (nI j23)), (3, .int (resolvedF s)), (2, .int v23_2), (0, .ref (ad 0)), (1, .int p)]) O dX5_feed_108 rfl rfl ?_
                        refine v_iinc (pc := 110) (y := (nI (j42 + 1))) (lv' := [(6, .int (nI (j42 + 1))), (5, .int v42_5), (7, .int ((32 * (s 14 (nI j42))) + (s 13 (nI j42)))), (4, .int (nI j23)), (3, .int (resolvedF s)), (2, .int v23_2), (0, .ref (ad 0)), (1, .int p)]) O dX5_feed_110 rfl (nI_inc _) rfl rfl ?_
                        refine v_goto (pc := 113) O (tgt := 42) dX5_feed_113 (by decide) ?_
                        exact v_locs [0, 1, 3, 4, 5, 6, 7] rfl (ih42 (j42 + 1) v42_5 _ (by omega) (by omega) (by rw [iter_s, ← he42]; simp [feedStep, c_48, c_79, c_85, c_91, c_98])  hR)
                      · refine v_iload (pc := 101) O dX5_feed_101 rfl ?_
                        refine v_goto (pc := 103) O (tgt := 108) dX5_feed_103 (by decide) ?_
                        refine v_istore (pc := 108) (lv' := [(5, .int ((32 * (s 14 (nI j42))) + (s 13 (nI j42)))), (7, .int ((32 * (s 14 (nI j42))) + (s 13 (nI j42)))), (6, .int (nI j42)), (4, .int (nI j23)), (3, .int (resolvedF s)), (2, .int v23_2), (0, .ref (ad 0)), (1, .int p)]) O dX5_feed_108 rfl rfl ?_
                        refine v_iinc (pc := 110) (y := (nI (j42 + 1))) (lv' := [(6, .int (nI (j42 + 1))), (5, .int ((32 * (s 14 (nI j42))) + (s 13 (nI j42)))), (7, .int ((32 * (s 14 (nI j42))) + (s 13 (nI j42)))), (4, .int (nI j23)), (3, .int (resolvedF s)), (2, .int v23_2), (0, .ref (ad 0)), (1, .int p)]) O dX5_feed_110 rfl (nI_inc _) rfl rfl ?_
                        refine v_goto (pc := 113) O (tgt := 42) dX5_feed_113 (by decide) ?_
                        exact v_locs [0, 1, 3, 4, 5, 6, 7] rfl (ih42 (j42 + 1) ((32 * (s 14 (nI j42))) + (s 13 (nI j42))) _ (by omega) (by omega) (by rw [iter_s, ← he42]; simp [feedStep, c_48, c_79, c_85, c_91, c_98])  hR)
          exact v_locs [0, 1, 2, 3, 4, 5, 6] rfl (L42 (nat (s 12 0) + 1) 0 (-1) _ (by omega) (by omega) iter_0.symm  hR)
    exact v_locs [0, 1, 2, 3, 4] rfl (L23 (fCnt s (-1) + 1) (-1) 0 _ (Nat.lt_succ_self _) (by omega) (by rw [Nat.zero_add]; exact fCnt_1000 hW hB) (by omega) rfl hR)
  · refine v_iconst (pc := 5) O (x := 1) dX5_feed_5 (by decide) ?_
    refine v_goto (pc := 6) O (tgt := 10) dX5_feed_6 (by decide) ?_
    refine vm_put (pc := 10) O hR 31 (by decide) q2074 dX5_feed_10 (fun μ hR => ?_)
    refine v_iconst (pc := 13) O (x := -1) dX5_feed_13 (by decide) ?_
    refine v_istore_n (pc := 14) (lv' := [(2, .int (-1)), (0, .ref (ad 0)), (1, .int p)]) O dX5_feed_14 rfl rfl ?_
    refine v_aload_n (pc := 15) O dX5_feed_15 rfl ?_
    refine v_callVi0 (pc := 16) (nA := 0) O (mm_resolvedNow (xL X) Γ ad (WfM.oth hW (by decide)) hR) hR.1 rfl q2328 q2330 qs44 q71 q2331 (by decide +kernel) rfl rfl rfl rfl (Nat.le_of_ble_eq_true rfl) (Nat.le_refl _) (Nat.le_refl _) dX5_feed_16 (fun x μ h => ?_)
    obtain ⟨hx, hR⟩ := h
    rw [rsv_oth (by decide) (by decide) (by decide) (by decide)] at hx
    subst hx
    refine v_istore_n (pc := 19) (lv' := [(3, .int (resolvedF s)), (2, .int (-1)), (0, .ref (ad 0)), (1, .int p)]) O dX5_feed_19 rfl rfl ?_
    refine v_iconst (pc := 20) O (x := 0) dX5_feed_20 (by decide) ?_
    refine v_istore (pc := 21) (lv' := [(4, .int 0), (3, .int (resolvedF s)), (2, .int (-1)), (0, .ref (ad 0)), (1, .int p)]) O dX5_feed_21 rfl rfl ?_
    refine v_iload (pc := 23) O dX5_feed_23 rfl ?_
    refine v_iload_n (pc := 25) O dX5_feed_25 rfl ?_
    refine v_icmp_gt (pc := 26) (tgt := 133) O dX5_feed_26 (by decide) (fun c_26 => ?_) (fun c_26 => ?_)
    · refine v_aload_n (pc := 133) O dX5_feed_133 rfl ?_
      refine vm_geti (pc := 134) O hR 31 rfl q2074 (x := 1) rfl sset_eq dX5_feed_134 ?_
      refine v_if_ne (pc := 137) (tgt := 144) O dX5_feed_137 (by decide) (fun _ => ?_) (fun c => absurd c (by decide))
      refine v_iconst (pc := 144) O (x := 0) dX5_feed_144 (by decide) ?_
      exact v_iret (pc := 145) O hr (Nat.le_refl _) (Nat.le_refl _) dX5_feed_145 ⟨_, rfl, ⟨by simp [feedO, c_2], by simpa [feedO, c_2] using hR⟩⟩
    · refine v_aload_n (pc := 29) O dX5_feed_29 rfl ?_
      refine vm_geti (pc := 30) O hR 31 rfl q2074 (x := 1) rfl sset_eq dX5_feed_30 ?_
      refine v_if_ne (pc := 33) (tgt := 133) O dX5_feed_33 (by decide) (fun _ => ?_) (fun c => absurd c (by decide))
      refine v_aload_n (pc := 133) O dX5_feed_133 rfl ?_
      refine vm_geti (pc := 134) O hR 31 rfl q2074 (x := 1) rfl sset_eq dX5_feed_134 ?_
      refine v_if_ne (pc := 137) (tgt := 144) O dX5_feed_137 (by decide) (fun _ => ?_) (fun c => absurd c (by decide))
      refine v_iconst (pc := 144) O (x := 0) dX5_feed_144 (by decide) ?_
      exact v_iret (pc := 145) O hr (Nat.le_refl _) (Nat.le_refl _) dX5_feed_145 ⟨_, rfl, ⟨by simp [feedO, c_2], by simpa [feedO, c_2] using hR⟩⟩
theorem next_cong2 {σ σ' : St} (h : ∀ g, g ≠ 30 → g ≠ 31 → σ' g = σ g) (a : Int32) : nextF σ' a = nextF σ a := by
  have e := next_cong (σ := sset σ 31 0 (σ' 31 0)) (σ' := fun g => if g = 31 then sset σ 31 0 (σ' 31 0) 31 else σ' g) (fun g hg => by
    by_cases c : g = 31
    · subst c; simp
    · rw [if_neg c, sset_g c]; exact h g hg c) a
  have e2 : nextF (fun g => if g = 31 then sset σ 31 0 (σ' 31 0) 31 else σ' g) a = nextF σ' a := by
    have ea : ∀ x y, aheadB (fun g => if g = 31 then sset σ 31 0 (σ' 31 0) 31 else σ' g) x y = aheadB σ' x y := fun x y => by
      unfold aheadB
      rfl
    unfold nextF
    simp only [Nat.reduceEqDiff, if_false]
    congr 1
  rw [← e2, e]
  exact next_oth (by decide) (by decide) (by decide) (by decide)
theorem jd_1 {B : Nat} {s s7 : St} (hW : WfM B s) (he7 : s7 = iter jdInit 32 (sset s 31 0 0)) : nextF s7 (-1) = -1 ∨ (ir (nextF s7 (-1)) (nI 40) ∧ aCnt s (nextF s7 (-1)) < 41) := by
  have h : ∀ g, g ≠ 30 → g ≠ 31 → s7 g = s g := fun g h1 h2 => by rw [he7, jdInit_g h1, sset_g h2]
  rw [next_cong2 h]
  rcases nextF_ir hW (last := -1) with e | e
  · exact Or.inl e
  · exact Or.inr ⟨e, aCnt_40 hW⟩
theorem jd_2 {B : Nat} {s s36 s100 : St} {d : Nat} {t : Int32} (hW : WfM B s) (h1 : ∀ g, g ≠ 30 → g ≠ 31 → s36 g = s g) (h2 : ∀ g, g ≠ 30 → s100 g = s36 g) (ha : aCnt s t < d + 1) (ht : ¬ t = -1) : nextF s100 t = -1 ∨ (ir (nextF s100 t) (nI 40) ∧ aCnt s (nextF s100 t) < d) := by
  have h : ∀ g, g ≠ 30 → g ≠ 31 → s100 g = s g := fun g g1 g2 => (h2 g g1).trans (h1 g g1 g2)
  rw [next_cong2 h]
  by_cases c : nextF s t = -1
  · exact Or.inl c
  · have := aCnt_lt ht c
    exact Or.inr ⟨(nextF_ir hW).resolve_left c, by omega⟩
theorem wf_jd {B : Nat} {s s7 : St} (hW : WfM B s) (he7 : s7 = iter jdInit 32 (sset s 31 0 0)) : WfM B s7 := by
  rw [he7]
  exact iter_inv (fun k a ha => ha.oth (by decide)) (hW.oth (by decide)) 32
set_option maxHeartbeats 4000000 in
theorem mm_judged (l : Launch) (Γ : Gm) (ad : Nat → Nat)  {s : St} {μ0 : Mem} {B : Nat} (hW : WfM B s) (hR : RepM Γ ad s μ0) : MetV l Γ yX5_judged cX5_judged 4 (some .int) 3 0 0 [.ref (ad 0)] μ0 (PI (fun r9 μ1 => r9 = (judgedO s ).2 ∧ RepM Γ ad ((judgedO s ).1) μ1)) := by
  refine MetV.of (by decide +kernel) rfl ?_
  intro X sz hl hr hnm O
  subst hl
  show V X Γ _ 4 _ 0 0 μ0 0 [(0, .ref (ad 0))] []
  refine v_aload_n (pc := 0) O dX5_judged_0 rfl ?_
  refine v_iconst (pc := 1) O (x := 0) dX5_judged_1 (by decide) ?_
  refine vm_put (pc := 2) O hR 31 (by decide) q2074 dX5_judged_2 (fun μ hR => ?_)
  refine v_iconst (pc := 5) O (x := 0) dX5_judged_5 (by decide) ?_
  refine v_istore_n (pc := 6) (lv' := [(1, .int 0), (0, .ref (ad 0))]) O dX5_judged_6 rfl rfl ?_
  have L7 : ∀ (d7 j7 : Nat) (s7 : St) (μ : Mem), 32 < d7 + j7 → j7 ≤ 32 → s7 = iter jdInit j7 (sset s 31 0 0) → WfM B s7 → RepM Γ ad s7 μ → V X Γ (gA μ0 sz) 4 (QV X Γ μ0 sz (PI (fun r9 μ1 => r9 = (judgedO s ).2 ∧ RepM Γ ad ((judgedO s ).1) μ1)) 0 0) 0 0 μ 7 [(1, .int (nI j7)), (0, .ref (ad 0))] [] := by
    intro d7
    induction d7 with
    | zero => intro j7 s7 μ h1 h2; exact absurd h1 (by omega)
    | succ d7 ih7 =>
      intro j7 s7 μ hd hj7 he7 hWs7 hR
      refine v_iload_n (pc := 7) O dX5_judged_7 rfl ?_
      refine v_bipush (pc := 8) O (x := 32) dX5_judged_8 (by decide) ?_
      refine v_icmp_ge (pc := 10) (tgt := 28) O dX5_judged_10 (by decide) (fun c_10 => ?_) (fun c_10 => ?_)
      · have hx7 := lp_out rfl (by decide) hj7 c_10
        subst hx7
        have hg7 : ∀ g, g ≠ 30 → g ≠ 31 → s7 g = s g := fun g h1 h2 => by rw [he7, jdInit_g h1, sset_g h2]
        refine v_iconst (pc := 28) O (x := 0) dX5_judged_28 (by decide) ?_
        refine v_istore_n (pc := 29) (lv' := [(1, .int 0), (0, .ref (ad 0))]) O dX5_judged_29 rfl rfl ?_
        refine v_aload_n (pc := 30) O dX5_judged_30 rfl ?_
        refine v_iconst (pc := 31) O (x := -1) dX5_judged_31 (by decide) ?_
        refine v_callVi0 (pc := 32) (nA := 1) O (mm_next (xL X) Γ ad (-1) (Or.inl rfl) hWs7 hR) hR.1 rfl q2340 q2342 qs45 q71 q2343 (by decide +kernel) rfl rfl rfl rfl (Nat.le_of_ble_eq_true rfl) (Nat.le_refl _) (Nat.le_refl _) dX5_judged_32 (fun x μ h => ?_)
        obtain ⟨rfl, hR⟩ := h
        refine v_istore_n (pc := 35) (lv' := [(2, .int (nextF s7 (-1))), (1, .int 0), (0, .ref (ad 0))]) O dX5_judged_35 rfl rfl ?_
        have L36 : ∀ (d36 : Nat) (s36 : St) (v36_1 v36_2 : Int32) (μ : Mem), (v36_2 = -1 ∨ (ir v36_2 (nI 40) ∧ aCnt s v36_2 < d36)) → judgedO s = jdGo d36 v36_2 (s36, v36_1) → (∀ g, g ≠ 30 → g ≠ 31 → s36 g = s g) → WfM B s36 → s36 31 0 = 0 → RepM Γ ad s36 μ → V X Γ (gA μ0 sz) 4 (QV X Γ μ0 sz (PI (fun r9 μ1 => r9 = (judgedO s ).2 ∧ RepM Γ ad ((judgedO s ).1) μ1)) 0 0) 0 0 μ 36 [(2, .int v36_2), (1, .int v36_1), (0, .ref (ad 0))] [] := by
          intro d36
          induction d36 with
          | zero =>
            intro s36 v36_1 v36_2 μ ht36 he36 hg36 hWs36 hT36 hR
            obtain rfl : v36_2 = -1 := ht36.resolve_right (fun h => absurd h.2 (by omega))
            refine v_iload_n (pc := 36) O dX5_judged_36 rfl ?_
            refine v_iconst (pc := 37) O (x := -1) dX5_judged_37 (by decide) ?_
            refine v_icmp_eq (pc := 38) (tgt := 162) O dX5_judged_38 (by decide) (fun _ => ?_) (fun c => absurd (by decide) c)
            refine v_iload_n (pc := 162) O dX5_judged_162 rfl ?_
            exact v_iret (pc := 163) O hr (Nat.le_refl _) (Nat.le_refl _) dX5_judged_163 ⟨_, rfl, ⟨by rw [he36, jd_stop], by rw [he36, jd_stop]; exact hR⟩⟩
          | succ d36 ih36 =>
            intro s36 v36_1 v36_2 μ ht36 he36 hg36 hWs36 hT36 hR
            refine v_iload_n (pc := 36) O dX5_judged_36 rfl ?_
            refine v_iconst (pc := 37) O (x := -1) dX5_judged_37 (by decide) ?_
            refine v_icmp_eq (pc := 38) (tgt := 162) O dX5_judged_38 (by decide) (fun c_38 => ?_) (fun c_38 => ?_)
            · refine v_iload_n (pc := 162) O dX5_judged_162 rfl ?_
              exact v_iret (pc := 163) O hr (Nat.le_refl _) (Nat.le_refl _) dX5_judged_163 ⟨_, rfl, ⟨by rw [he36, c_38, jd_stop], by rw [he36, c_38, jd_stop]; exact hR⟩⟩
            · have h36 := ht36.resolve_left c_38
              have h9_v36_2 : v36_2 = -1 ∨ ir v36_2 (nI 40) := Or.inr h36.1
              refine v_iconst (pc := 41) O (x := 0) dX5_judged_41 (by decide) ?_
              refine v_istore_n (pc := 42) (lv' := [(3, .int 0), (2, .int v36_2), (1, .int v36_1), (0, .ref (ad 0))]) O dX5_judged_42 rfl rfl ?_
              have L43 : ∀ (d43 j43 : Nat) (v43_1 : Int32) (μ : Mem), 32 < d43 + j43 → j43 ≤ 32 → v43_1 = iter (jdRead v36_2 s36) j43 v36_1 → RepM Γ ad s36 μ → V X Γ (gA μ0 sz) 4 (QV X Γ μ0 sz (PI (fun r9 μ1 => r9 = (judgedO s ).2 ∧ RepM Γ ad ((judgedO s ).1) μ1)) 0 0) 0 0 μ 43 [(3, .int (nI j43)), (2, .int v36_2), (1, .int v43_1), (0, .ref (ad 0))] [] := by
                intro d43
                induction d43 with
                | zero => intro j43 v43_1 μ h1 h2; exact absurd h1 (by omega)
                | succ d43 ih43 =>
                  intro j43 v43_1 μ hd hj43 he43  hR
                  refine v_iload_n (pc := 43) O dX5_judged_43 rfl ?_
                  refine v_bipush (pc := 44) O (x := 32) dX5_judged_44 (by decide) ?_
                  refine v_icmp_ge (pc := 46) (tgt := 98) O dX5_judged_46 (by decide) (fun c_46 => ?_) (fun c_46 => ?_)
                  · have hx43 := lp_out rfl (by decide) hj43 c_46
                    subst hx43
                    refine v_iconst (pc := 98) O (x := 0) dX5_judged_98 (by decide) ?_
                    refine v_istore_n (pc := 99) (lv' := [(3, .int 0), (2, .int v36_2), (1, .int v43_1), (0, .ref (ad 0))]) O dX5_judged_99 rfl rfl ?_
                    have L100 : ∀ (d100 j100 : Nat) (s100 : St) (μ : Mem), 32 < d100 + j100 → j100 ≤ 32 → s100 = iter (jdWrite v36_2) j100 s36 → WfM B s100 → RepM Γ ad s100 μ → V X Γ (gA μ0 sz) 4 (QV X Γ μ0 sz (PI (fun r9 μ1 => r9 = (judgedO s ).2 ∧ RepM Γ ad ((judgedO s ).1) μ1)) 0 0) 0 0 μ 100 [(3, .int (nI j100)), (2, .int v36_2), (1, .int v43_1), (0, .ref (ad 0))] [] := by
                      intro d100
                      induction d100 with
                      | zero => intro j100 s100 μ h1 h2; exact absurd h1 (by omega)
                      | succ d100 ih100 =>
                        intro j100 s100 μ hd hj100 he100 hWs100 hR
                        refine v_iload_n (pc := 100) O dX5_judged_100 rfl ?_
                        refine v_bipush (pc := 101) O (x := 32) dX5_judged_101 (by decide) ?_
                        refine v_icmp_ge (pc := 103) (tgt := 153) O dX5_judged_103 (by decide) (fun c_103 => ?_) (fun c_103 => ?_)
                        · have hx100 := lp_out rfl (by decide) hj100 c_103
                          subst hx100
                          have hg100 : ∀ g, g ≠ 30 → s100 g = s36 g := fun g hg => by rw [he100, jdWrite_g hg]
                          refine v_aload_n (pc := 153) O dX5_judged_153 rfl ?_
                          refine v_iload_n (pc := 154) O dX5_judged_154 rfl ?_
                          refine v_callVi0 (pc := 155) (nA := 1) O (mm_next (xL X) Γ ad v36_2 h9_v36_2 hWs100 hR) hR.1 rfl q2340 q2342 qs45 q71 q2343 (by decide +kernel) rfl rfl rfl rfl (Nat.le_of_ble_eq_true rfl) (Nat.le_refl _) (Nat.le_refl _) dX5_judged_155 (fun x μ h => ?_)
                          obtain ⟨rfl, hR⟩ := h
                          refine v_istore_n (pc := 158) (lv' := [(2, .int (nextF s100 v36_2)), (3, .int (nI 32)), (1, .int v43_1), (0, .ref (ad 0))]) O dX5_judged_158 rfl rfl ?_
                          refine v_goto (pc := 159) O (tgt := 36) dX5_judged_159 (by decide) ?_
                          exact v_locs [0, 2, 3] rfl (ih36 s100 v43_1 (nextF s100 v36_2)  μ (jd_2 hW hg36 hg100 h36.2 c_38) (by rw [he36, jdGo_s, if_neg c_38, ← he100, ← he43, next_cong hg100]) (fun g h1 h2 => (hg100 g h1).trans (hg36 g h1 h2)) hWs100 (by rw [hg100 31 (by decide)]; exact hT36) hR)
                        · have hj100lt := lp_in rfl (by decide) hj100 c_103
                          refine v_aload_n (pc := 106) O dX5_judged_106 rfl ?_
                          refine vm_get (pc := 107) O hR 30 rfl q2073 rfl dX5_judged_107 ?_
                          refine v_iload_n (pc := 110) O dX5_judged_110 rfl ?_
                          refine v_aload_n (pc := 111) O dX5_judged_111 rfl ?_
                          refine vm_get (pc := 112) O hR 29 rfl q2072 rfl dX5_judged_112 ?_
                          refine v_bipush (pc := 115) O (x := 32) dX5_judged_115 (by decide) ?_
                          refine v_iload_n (pc := 117) O dX5_judged_117 rfl ?_
                          refine v_imul (pc := 118) O dX5_judged_118 ?_
                          refine v_iload_n (pc := 119) O dX5_judged_119 rfl ?_
                          refine v_iadd (pc := 120) O dX5_judged_120 ?_
                          refine vm_iald (pc := 121) O hR 29 rfl rfl (ir_32 h36.1 hj100lt) (x := (s100 29 ((32 * v36_2) + (nI j100)))) rfl dX5_judged_121 ?_
                          refine v_iconst (pc := 122) O (x := -1) dX5_judged_122 (by decide) ?_
                          refine v_icmp_eq (pc := 123) (tgt := 140) O dX5_judged_123 (by decide) (fun c_123 => ?_) (fun c_123 => ?_)
                          · refine v_aload_n (pc := 140) O dX5_judged_140 rfl ?_
                            refine vm_get (pc := 141) O hR 30 rfl q2073 rfl dX5_judged_141 ?_
                            refine v_iload_n (pc := 144) O dX5_judged_144 rfl ?_
                            refine vm_iald (pc := 145) O hR 30 rfl rfl (ir_nI hj100lt (by decide)) (x := (s100 30 (nI j100))) rfl dX5_judged_145 ?_
                            refine vm_iast (pc := 146) O hR 30 rfl rfl (ir_nI hj100lt (by decide)) dX5_judged_146 (fun μ hR => ?_)
                            refine v_iinc (pc := 147) (y := (nI (j100 + 1))) (lv' := [(3, .int (nI (j100 + 1))), (2, .int v36_2), (1, .int v43_1), (0, .ref (ad 0))]) O dX5_judged_147 rfl (nI_inc _) rfl rfl ?_
                            refine v_goto (pc := 150) O (tgt := 100) dX5_judged_150 (by decide) ?_
                            exact v_locs [0, 1, 2, 3] rfl (ih100 (j100 + 1) (sset s100 30 (nI j100) (s100 30 (nI j100))) _ (by omega) (by omega) (by rw [iter_s, ← he100]; simp [jdWrite, c_103, c_123]) (WfM.oth hWs100 (by decide)) hR)
                          · refine v_aload_n (pc := 126) O dX5_judged_126 rfl ?_
                            refine vm_get (pc := 127) O hR 29 rfl q2072 rfl dX5_judged_127 ?_
                            refine v_bipush (pc := 130) O (x := 32) dX5_judged_130 (by decide) ?_
                            refine v_iload_n (pc := 132) O dX5_judged_132 rfl ?_
                            refine v_imul (pc := 133) O dX5_judged_133 ?_
                            refine v_iload_n (pc := 134) O dX5_judged_134 rfl ?_
                            refine v_iadd (pc := 135) O dX5_judged_135 ?_
                            refine vm_iald (pc := 136) O hR 29 rfl rfl (ir_32 h36.1 hj100lt) (x := (s100 29 ((32 * v36_2) + (nI j100)))) rfl dX5_judged_136 ?_
                            refine v_goto (pc := 137) O (tgt := 146) dX5_judged_137 (by decide) ?_
                            refine vm_iast (pc := 146) O hR 30 rfl rfl (ir_nI hj100lt (by decide)) dX5_judged_146 (fun μ hR => ?_)
                            refine v_iinc (pc := 147) (y := (nI (j100 + 1))) (lv' := [(3, .int (nI (j100 + 1))), (2, .int v36_2), (1, .int v43_1), (0, .ref (ad 0))]) O dX5_judged_147 rfl (nI_inc _) rfl rfl ?_
                            refine v_goto (pc := 150) O (tgt := 100) dX5_judged_150 (by decide) ?_
                            exact v_locs [0, 1, 2, 3] rfl (ih100 (j100 + 1) (sset s100 30 (nI j100) (s100 29 ((32 * v36_2) + (nI j100)))) _ (by omega) (by omega) (by rw [iter_s, ← he100]; simp [jdWrite, c_103, c_123]) (WfM.oth hWs100 (by decide)) hR)
                    exact v_locs [0, 1, 2, 3] rfl (L100 (32 + 1) 0 s36 _ (by omega) (by omega) iter_0.symm hWs36 hR)
                  · have hj43lt := lp_in rfl (by decide) hj43 c_46
                    refine v_iload_n (pc := 49) O dX5_judged_49 rfl ?_
                    refine v_aload_n (pc := 50) O dX5_judged_50 rfl ?_
                    refine vm_get (pc := 51) O hR 28 rfl q2071 rfl dX5_judged_51 ?_
                    refine v_bipush (pc := 54) O (x := 32) dX5_judged_54 (by decide) ?_
                    refine v_iload_n (pc := 56) O dX5_judged_56 rfl ?_
                    refine v_imul (pc := 57) O dX5_judged_57 ?_
                    refine v_iload_n (pc := 58) O dX5_judged_58 rfl ?_
                    refine v_iadd (pc := 59) O dX5_judged_59 ?_
                    refine vm_iald (pc := 60) O hR 28 rfl rfl (ir_32 h36.1 hj43lt) (x := (s36 28 ((32 * v36_2) + (nI j43)))) rfl dX5_judged_60 ?_
                    refine v_iconst (pc := 61) O (x := -1) dX5_judged_61 (by decide) ?_
                    refine v_icmp_eq (pc := 62) (tgt := 89) O dX5_judged_62 (by decide) (fun c_62 => ?_) (fun c_62 => ?_)
                    · refine v_iconst (pc := 89) O (x := 0) dX5_judged_89 (by decide) ?_
                      refine v_iadd (pc := 90) O dX5_judged_90 ?_
                      refine v_istore_n (pc := 91) (lv' := [(1, .int (v43_1 + 0)), (3, .int (nI j43)), (2, .int v36_2), (0, .ref (ad 0))]) O dX5_judged_91 rfl rfl ?_
                      refine v_iinc (pc := 92) (y := (nI (j43 + 1))) (lv' := [(3, .int (nI (j43 + 1))), (1, .int (v43_1 + 0)), (2, .int v36_2), (0, .ref (ad 0))]) O dX5_judged_92 rfl (nI_inc _) rfl rfl ?_
                      refine v_goto (pc := 95) O (tgt := 43) dX5_judged_95 (by decide) ?_
                      exact v_locs [0, 2, 1, 3] rfl (ih43 (j43 + 1) (v43_1 + 0) _ (by omega) (by omega) (by rw [iter_s, ← he43]; simp [jdRead, c_46, c_62])  hR)
                    · refine v_aload_n (pc := 65) O dX5_judged_65 rfl ?_
                      refine vm_get (pc := 66) O hR 28 rfl q2071 rfl dX5_judged_66 ?_
                      refine v_bipush (pc := 69) O (x := 32) dX5_judged_69 (by decide) ?_
                      refine v_iload_n (pc := 71) O dX5_judged_71 rfl ?_
                      refine v_imul (pc := 72) O dX5_judged_72 ?_
                      refine v_iload_n (pc := 73) O dX5_judged_73 rfl ?_
                      refine v_iadd (pc := 74) O dX5_judged_74 ?_
                      refine vm_iald (pc := 75) O hR 28 rfl rfl (ir_32 h36.1 hj43lt) (x := (s36 28 ((32 * v36_2) + (nI j43)))) rfl dX5_judged_75 ?_
                      refine v_aload_n (pc := 76) O dX5_judged_76 rfl ?_
                      refine vm_get (pc := 77) O hR 30 rfl q2073 rfl dX5_judged_77 ?_
                      refine v_iload_n (pc := 80) O dX5_judged_80 rfl ?_
                      refine vm_iald (pc := 81) O hR 30 rfl rfl (ir_nI hj43lt (by decide)) (x := (s36 30 (nI j43))) rfl dX5_judged_81 ?_
                      refine v_icmp_eq (pc := 82) (tgt := 89) O dX5_judged_82 (by decide) (fun c_82 => ?_) (fun c_82 => ?_)
                      · refine v_iconst (pc := 89) O (x := 0) dX5_judged_89 (by decide) ?_
                        refine v_iadd (pc := 90) O dX5_judged_90 ?_
                        refine v_istore_n (pc := 91) (lv' := [(1, .int (v43_1 + 0)), (3, .int (nI j43)), (2, .int v36_2), (0, .ref (ad 0))]) O dX5_judged_91 rfl rfl ?_
                        refine v_iinc (pc := 92) (y := (nI (j43 + 1))) (lv' := [(3, .int (nI (j43 + 1))), (1, .int (v43_1 + 0)), (2, .int v36_2), (0, .ref (ad 0))]) O dX5_judged_92 rfl (nI_inc _) rfl rfl ?_
                        refine v_goto (pc := 95) O (tgt := 43) dX5_judged_95 (by decide) ?_
                        exact v_locs [0, 2, 1, 3] rfl (ih43 (j43 + 1) (v43_1 + 0) _ (by omega) (by omega) (by rw [iter_s, ← he43]; simp [jdRead, c_46, c_62, c_82])  hR)
                      · refine v_iconst (pc := 85) O (x := 1) dX5_judged_85 (by decide) ?_
                        refine v_goto (pc := 86) O (tgt := 90) dX5_judged_86 (by decide) ?_
                        refine v_iadd (pc := 90) O dX5_judged_90 ?_
                        refine v_istore_n (pc := 91) (lv' := [(1, .int (v43_1 + 1)), (3, .int (nI j43)), (2, .int v36_2), (0, .ref (ad 0))]) O dX5_judged_91 rfl rfl ?_
                        refine v_iinc (pc := 92) (y := (nI (j43 + 1))) (lv' := [(3, .int (nI (j43 + 1))), (1, .int (v43_1 + 1)), (2, .int v36_2), (0, .ref (ad 0))]) O dX5_judged_92 rfl (nI_inc _) rfl rfl ?_
                        refine v_goto (pc := 95) O (tgt := 43) dX5_judged_95 (by decide) ?_
                        exact v_locs [0, 2, 1, 3] rfl (ih43 (j43 + 1) (v43_1 + 1) _ (by omega) (by omega) (by rw [iter_s, ← he43]; simp [jdRead, c_46, c_62, c_82])  hR)
              exact v_locs [0, 1, 2, 3] rfl (L43 (32 + 1) 0 v36_1 _ (by omega) (by omega) iter_0.symm  hR)
        exact v_locs [0, 1, 2] rfl (L36 41 s7 0 (nextF s7 (-1))  _ (jd_1 hW he7) (by rw [judgedO, ← he7, next_cong2 hg7]) hg7 (wf_jd hW he7) (by rw [he7, jdInit_g (by decide), sset_eq]) hR)
      · have hj7lt := lp_in rfl (by decide) hj7 c_10
        refine v_aload_n (pc := 13) O dX5_judged_13 rfl ?_
        refine vm_get (pc := 14) O hR 30 rfl q2073 rfl dX5_judged_14 ?_
        refine v_iload_n (pc := 17) O dX5_judged_17 rfl ?_
        refine v_sipush (pc := 18) O (x := 1000) dX5_judged_18 (by decide) ?_
        refine vm_iast (pc := 21) O hR 30 rfl rfl (ir_nI hj7lt (by decide)) dX5_judged_21 (fun μ hR => ?_)
        refine v_iinc (pc := 22) (y := (nI (j7 + 1))) (lv' := [(1, .int (nI (j7 + 1))), (0, .ref (ad 0))]) O dX5_judged_22 rfl (nI_inc _) rfl rfl ?_
        refine v_goto (pc := 25) O (tgt := 7) dX5_judged_25 (by decide) ?_
        exact v_locs [0, 1] rfl (ih7 (j7 + 1) (sset s7 30 (nI j7) 1000) _ (by omega) (by omega) (by rw [iter_s, ← he7]; simp [jdInit, c_10]) (WfM.oth hWs7 (by decide)) hR)
  exact v_locs [0, 1] rfl (L7 (32 + 1) 0 (sset s 31 0 0) _ (by omega) (by omega) iter_0.symm (WfM.oth hW (by decide)) hR)
theorem hdB_oth {σ : St} {f : Nat} {i v t : Int32} (h1 : 3 ≠ f) (h2 : 4 ≠ f) (h3 : 5 ≠ f) (h4 : 6 ≠ f) (h5 : 17 ≠ f) (h6 : 29 ≠ f) : hasDownB (sset σ f i v) t = hasDownB σ t := by
  unfold hasDownB
  rw [sset_g h1, sset_g h5, sset_g h6]
  congr 1
  congr 1
  funext k
  rw [node_oth h2 h3 h4]
theorem hd_1 {σ : St} {t v : Int32} (h : (!decide (v = 0)) = (!decide (σ 3 (σ 17 t) = 0) || (List.range 32).any fun k => !decide (σ 29 (32 * t + nI k) = -1) && !decide (σ 3 (nodeOfF σ (nI k)) = 0))) : hasDownB σ t = !decide (v = 0) := h.symm
set_option maxHeartbeats 4000000 in
theorem mm_commit (l : Launch) (Γ : Gm) (ad : Nat → Nat) (t stg : Int32) {s : St} {μ0 : Mem} {B : Nat} (hB : B ≤ 1000) (hW : WfM B s) (hR : RepM Γ ad s μ0) : MetV l Γ yX5_commit cX5_commit 6 (some .int) 5 0 0 [.ref (ad 0), .int t, .int stg] μ0 (PI (fun r9 μ1 => r9 = (commitO s t stg).2 ∧ RepM Γ ad ((commitO s t stg).1) μ1)) := by
  refine MetV.of (by decide +kernel) rfl ?_
  intro X sz hl hr hnm O
  subst hl
  show V X Γ _ 6 _ 0 0 μ0 0 [(0, .ref (ad 0)), (1, .int t), (2, .int stg)] []
  refine v_aload_n (pc := 0) O dX5_commit_0 rfl ?_
  refine v_iload_n (pc := 1) O dX5_commit_1 rfl ?_
  refine v_callVi0 (pc := 2) (nA := 1) O (mm_isTransaction (xL X) Γ ad t hR) hR.1 rfl q2292 q2294 qs42 q71 q2295 (by decide +kernel) rfl rfl rfl rfl (Nat.le_of_ble_eq_true rfl) (Nat.le_refl _) (Nat.le_refl _) dX5_commit_2 (fun x μ h => ?_)
  obtain ⟨rfl, hR⟩ := h
  refine v_if_ne_b (pc := 5) (tgt := 10) O dX5_commit_5 (by decide) (fun c_5 => ?_) (fun c_5 => ?_)
  · have hR : RepM Γ ad (sset s 31 0 0) μ := by simpa [c_5, b2i] using hR
    have h_t := tr_ir hW c_5
    have hn := ir_n1 h_t
    refine v_iload_n (pc := 10) O dX5_commit_10 rfl ?_
    refine v_istore_n (pc := 11) (lv' := [(3, .int t), (0, .ref (ad 0)), (1, .int t), (2, .int stg)]) O dX5_commit_11 rfl rfl ?_
    refine v_aload_n (pc := 12) O dX5_commit_12 rfl ?_
    refine vm_get (pc := 13) O hR 23 rfl q2066 rfl dX5_commit_13 ?_
    refine v_iload_n (pc := 16) O dX5_commit_16 rfl ?_
    refine vm_iald (pc := 17) O hR 23 rfl rfl h_t (x := (s 23 t)) ((sset_f (by decide)).trans rfl) dX5_commit_17 ?_
    refine v_if_eq (pc := 18) (tgt := 24) O dX5_commit_18 (by decide) (fun c_18 => ?_) (fun c_18 => ?_)
    · refine v_aload_n (pc := 24) O dX5_commit_24 rfl ?_
      refine vm_get (pc := 25) O hR 3 rfl q2046 rfl dX5_commit_25 ?_
      refine v_aload_n (pc := 28) O dX5_commit_28 rfl ?_
      refine vm_get (pc := 29) O hR 17 rfl q2060 rfl dX5_commit_29 ?_
      refine v_iload_n (pc := 32) O dX5_commit_32 rfl ?_
      refine vm_iald (pc := 33) O hR 17 rfl rfl h_t (x := (s 17 t)) ((sset_f (by decide)).trans rfl) dX5_commit_33 ?_
      refine vm_zald (pc := 34) O hR 3 rfl rfl (hW.2.1 _) (x := (s 3 (s 17 t))) ((sset_f (by decide)).trans rfl) dX5_commit_34 ?_
      refine v_istore (pc := 35) (lv' := [(4, .int (s 3 (s 17 t))), (3, .int t), (0, .ref (ad 0)), (1, .int t), (2, .int stg)]) O dX5_commit_35 rfl rfl ?_
      refine v_iconst (pc := 37) O (x := 0) dX5_commit_37 (by decide) ?_
      refine v_istore (pc := 38) (lv' := [(5, .int 0), (4, .int (s 3 (s 17 t))), (3, .int t), (0, .ref (ad 0)), (1, .int t), (2, .int stg)]) O dX5_commit_38 rfl rfl ?_
      have L40 : ∀ (d40 j40 : Nat) (v40_4 : Int32) (μ : Mem), 32 < d40 + j40 → j40 ≤ 32 → (!decide (v40_4 = 0)) = (!decide (s 3 (s 17 t) = 0) || ((List.range j40).any fun k => !decide (s 29 (32 * t + nI k) = -1) && !decide (s 3 (nodeOfF s (nI k)) = 0))) → RepM Γ ad (sset s 31 0 0) μ → V X Γ (gA μ0 sz) 6 (QV X Γ μ0 sz (PI (fun r9 μ1 => r9 = (commitO s t stg).2 ∧ RepM Γ ad ((commitO s t stg).1) μ1)) 0 0) 0 0 μ 40 [(5, .int (nI j40)), (4, .int v40_4), (3, .int t), (0, .ref (ad 0)), (1, .int t), (2, .int stg)] [] := by
        intro d40
        induction d40 with
        | zero => intro j40 v40_4 μ h1 h2; exact absurd h1 (by omega)
        | succ d40 ih40 =>
          intro j40 v40_4 μ hd hj40 he40  hR
          refine v_iload (pc := 40) O dX5_commit_40 rfl ?_
          refine v_bipush (pc := 42) O (x := 32) dX5_commit_42 (by decide) ?_
          refine v_icmp_ge (pc := 44) (tgt := 95) O dX5_commit_44 (by decide) (fun c_44 => ?_) (fun c_44 => ?_)
          · have hx40 := lp_out rfl (by decide) hj40 c_44
            subst hx40
            have hd0 := hd_1 he40
            refine v_iload (pc := 95) O dX5_commit_95 rfl ?_
            refine v_if_eq (pc := 97) (tgt := 103) O dX5_commit_97 (by decide) (fun c_97 => ?_) (fun c_97 => ?_)
            · have hdf : hasDownB s t = false := by rw [hd0]; simp [c_97]
              refine v_aload_n (pc := 103) O dX5_commit_103 rfl ?_
              refine vm_get (pc := 104) O hR 24 rfl q2067 rfl dX5_commit_104 ?_
              refine v_iload_n (pc := 107) O dX5_commit_107 rfl ?_
              refine v_iconst (pc := 108) O (x := -1) dX5_commit_108 (by decide) ?_
              refine vm_iast (pc := 109) O hR 24 rfl rfl h_t dX5_commit_109 (fun μ hR => ?_)
              refine v_aload_n (pc := 110) O dX5_commit_110 rfl ?_
              refine v_iload_n (pc := 111) O dX5_commit_111 rfl ?_
              refine v_aload_n (pc := 112) O dX5_commit_112 rfl ?_
              refine vm_get (pc := 113) O hR 29 rfl q2072 rfl dX5_commit_113 ?_
              refine v_callVi0 (pc := 116) (nA := 2) O (mm_counts29 (xL X) Γ ad t h_t hR) hR.1 rfl q2296 q2298 qs43 q71 q2299 (by decide +kernel) rfl rfl rfl rfl (Nat.le_of_ble_eq_true rfl) (Nat.le_refl _) (Nat.le_refl _) dX5_commit_116 (fun x μ h => ?_)
              obtain ⟨hx, hR⟩ := h
              rw [cnt29_oth (by decide), cnt29_oth (by decide)] at hx
              subst hx
              refine v_if_le (pc := 119) (tgt := 126) O dX5_commit_119 (by decide) (fun c_119 => ?_) (fun c_119 => ?_)
              · refine v_iconst (pc := 126) O (x := 0) dX5_commit_126 (by decide) ?_
                refine v_istore (pc := 127) (lv' := [(5, .int 0), (4, .int v40_4), (3, .int t), (0, .ref (ad 0)), (1, .int t), (2, .int stg)]) O dX5_commit_127 rfl rfl ?_
                refine v_aload_n (pc := 129) O dX5_commit_129 rfl ?_
                refine vm_get (pc := 130) O hR 20 rfl q2063 rfl dX5_commit_130 ?_
                refine v_iload_n (pc := 133) O dX5_commit_133 rfl ?_
                refine v_iload (pc := 134) O dX5_commit_134 rfl ?_
                refine v_if_eq (pc := 136) (tgt := 157) O dX5_commit_136 (by decide) (fun _ => ?_) (fun c => absurd (by decide) c)
                refine v_aload_n (pc := 157) O dX5_commit_157 rfl ?_
                refine vm_get (pc := 158) O hR 20 rfl q2063 rfl dX5_commit_158 ?_
                refine v_iload_n (pc := 161) O dX5_commit_161 rfl ?_
                refine vm_iald (pc := 162) O hR 20 rfl rfl h_t (x := (s 20 t)) ((sset_f (by decide)).trans ((sset_f (by decide)).trans rfl)) dX5_commit_162 ?_
                refine vm_iast (pc := 163) O hR 20 rfl rfl h_t dX5_commit_163 (fun μ hR => ?_)
                have hR : RepM Γ ad (sset (sset s 31 0 0) 24 t (-1)) μ := by rw [sset_id (by rw [sset_f (by decide), sset_f (by decide)])] at hR; exact hR
                refine v_aload_n (pc := 164) O dX5_commit_164 rfl ?_
                refine vm_get (pc := 165) O hR 20 rfl q2063 rfl dX5_commit_165 ?_
                refine v_iload_n (pc := 168) O dX5_commit_168 rfl ?_
                refine vm_iald (pc := 169) O hR 20 rfl rfl h_t (x := (s 20 t)) ((sset_f (by decide)).trans ((sset_f (by decide)).trans rfl)) dX5_commit_169 ?_
                refine v_aload_n (pc := 170) O dX5_commit_170 rfl ?_
                refine vm_get (pc := 171) O hR 19 rfl q2062 rfl dX5_commit_171 ?_
                refine v_iload_n (pc := 174) O dX5_commit_174 rfl ?_
                refine vm_iald (pc := 175) O hR 19 rfl rfl h_t (x := (s 19 t)) ((sset_f (by decide)).trans ((sset_f (by decide)).trans rfl)) dX5_commit_175 ?_
                refine v_icmp_le (pc := 176) (tgt := 217) O dX5_commit_176 (by decide) (fun c_176 => ?_) (fun c_176 => ?_)
                · refine v_aload_n (pc := 217) O dX5_commit_217 rfl ?_
                  refine v_iload_n (pc := 218) O dX5_commit_218 rfl ?_
                  refine v_callVi0 (pc := 219) (nA := 1) O (mm_hasAllIntents (xL X) Γ ad t h_t hR) hR.1 rfl q2239 q2241 qs31 q71 q2242 (by decide +kernel) rfl rfl rfl rfl (Nat.le_of_ble_eq_true rfl) (Nat.le_refl _) (Nat.le_refl _) dX5_commit_219 (fun x μ h => ?_)
                  obtain ⟨rfl, hR⟩ := h
                  refine v_if_ne_b (pc := 222) (tgt := 235) O dX5_commit_222 (by decide) (fun c_222 => ?_) (fun c_222 => ?_)
                  · refine v_iload_n (pc := 235) O dX5_commit_235 rfl ?_
                    refine v_if_eq (pc := 236) (tgt := 254) O dX5_commit_236 (by decide) (fun c_236 => ?_) (fun c_236 => ?_)
                    · refine v_aload_n (pc := 254) O dX5_commit_254 rfl ?_
                      refine v_iload_n (pc := 255) O dX5_commit_255 rfl ?_
                      refine v_callVv0 (pc := 256) (nA := 1) O (mm_commits (xL X) Γ ad t hB hn h_t (WfM.s24 (WfM.oth hW (by decide)) ⟨by decide, by decide⟩) hR) hR.1 rfl q2243 q2245 qs32 q71 q2246 (by decide +kernel) rfl rfl rfl rfl (Nat.le_of_ble_eq_true rfl) (Nat.le_refl _) (Nat.le_refl _) dX5_commit_256 (fun μ hR => ?_)
                      refine v_iconst (pc := 259) O (x := 0) dX5_commit_259 (by decide) ?_
                      exact v_iret (pc := 260) O hr (Nat.le_refl _) (Nat.le_refl _) dX5_commit_260 ⟨_, rfl, ⟨by simp [commitO, comEnd, b2i, sset_f, sset_eq, asks_oth, closed_oth, cnt29_oth, r19, r20, sset_id, hdB_oth, hdf, c_5, c_18, c_119, c_176, c_222, c_236], by simpa [commitO, comEnd, b2i, sset_f, sset_eq, asks_oth, closed_oth, cnt29_oth, r19, r20, sset_id, hdB_oth, hdf, c_5, c_18, c_119, c_176, c_222, c_236] using hR⟩⟩
                    · refine v_iload (pc := 239) O dX5_commit_239 rfl ?_
                      refine v_if_eq (pc := 241) (tgt := 254) O dX5_commit_241 (by decide) (fun _ => ?_) (fun c => absurd (by decide) c)
                      refine v_aload_n (pc := 254) O dX5_commit_254 rfl ?_
                      refine v_iload_n (pc := 255) O dX5_commit_255 rfl ?_
                      refine v_callVv0 (pc := 256) (nA := 1) O (mm_commits (xL X) Γ ad t hB hn h_t (WfM.s24 (WfM.oth hW (by decide)) ⟨by decide, by decide⟩) hR) hR.1 rfl q2243 q2245 qs32 q71 q2246 (by decide +kernel) rfl rfl rfl rfl (Nat.le_of_ble_eq_true rfl) (Nat.le_refl _) (Nat.le_refl _) dX5_commit_256 (fun μ hR => ?_)
                      refine v_iconst (pc := 259) O (x := 0) dX5_commit_259 (by decide) ?_
                      exact v_iret (pc := 260) O hr (Nat.le_refl _) (Nat.le_refl _) dX5_commit_260 ⟨_, rfl, ⟨by simp [commitO, comEnd, b2i, sset_f, sset_eq, asks_oth, closed_oth, cnt29_oth, r19, r20, sset_id, hdB_oth, hdf, c_5, c_18, c_119, c_176, c_222, c_236], by simpa [commitO, comEnd, b2i, sset_f, sset_eq, asks_oth, closed_oth, cnt29_oth, r19, r20, sset_id, hdB_oth, hdf, c_5, c_18, c_119, c_176, c_222, c_236] using hR⟩⟩
                  · refine v_aload_n (pc := 225) O dX5_commit_225 rfl ?_
                    refine vm_get (pc := 226) O hR 23 rfl q2066 rfl dX5_commit_226 ?_
                    refine v_iload_n (pc := 229) O dX5_commit_229 rfl ?_
                    refine v_iconst (pc := 230) O (x := 3) dX5_commit_230 (by decide) ?_
                    refine vm_iast (pc := 231) O hR 23 rfl rfl h_t dX5_commit_231 (fun μ hR => ?_)
                    refine v_bipush (pc := 232) O (x := -13) dX5_commit_232 (by decide) ?_
                    exact v_iret (pc := 234) O hr (Nat.le_refl _) (Nat.le_refl _) dX5_commit_234 ⟨_, rfl, ⟨by simp [commitO, comEnd, b2i, sset_f, sset_eq, asks_oth, closed_oth, cnt29_oth, r19, r20, sset_id, hdB_oth, hdf, c_5, c_18, c_119, c_176, c_222], by simpa [commitO, comEnd, b2i, sset_f, sset_eq, asks_oth, closed_oth, cnt29_oth, r19, r20, sset_id, hdB_oth, hdf, c_5, c_18, c_119, c_176, c_222] using hR⟩⟩
                · refine v_aload_n (pc := 179) O dX5_commit_179 rfl ?_
                  refine v_iload_n (pc := 180) O dX5_commit_180 rfl ?_
                  refine v_aload_n (pc := 181) O dX5_commit_181 rfl ?_
                  refine vm_get (pc := 182) O hR 20 rfl q2063 rfl dX5_commit_182 ?_
                  refine v_iload_n (pc := 185) O dX5_commit_185 rfl ?_
                  refine vm_iald (pc := 186) O hR 20 rfl rfl h_t (x := (s 20 t)) ((sset_f (by decide)).trans ((sset_f (by decide)).trans rfl)) dX5_commit_186 ?_
                  refine v_callVi0 (pc := 187) (nA := 2) O (mm_refreshes (xL X) Γ ad t (s 20 t) hB h_t (WfM.s24 (WfM.oth hW (by decide)) ⟨by decide, by decide⟩) hR) hR.1 rfl q2267 q2269 qs38 q71 q2270 (by decide +kernel) rfl rfl rfl rfl (Nat.le_of_ble_eq_true rfl) (Nat.le_refl _) (Nat.le_refl _) dX5_commit_187 (fun x μ h => ?_)
                  obtain ⟨rfl, hR⟩ := h
                  refine v_if_ne_b (pc := 190) (tgt := 205) O dX5_commit_190 (by decide) (fun c_190 => ?_) (fun c_190 => ?_)
                  · refine v_aload_n (pc := 205) O dX5_commit_205 rfl ?_
                    refine vm_get (pc := 206) O hR 19 rfl q2062 rfl dX5_commit_206 ?_
                    refine v_iload_n (pc := 209) O dX5_commit_209 rfl ?_
                    refine v_aload_n (pc := 210) O dX5_commit_210 rfl ?_
                    refine vm_get (pc := 211) O hR 20 rfl q2063 rfl dX5_commit_211 ?_
                    refine v_iload_n (pc := 214) O dX5_commit_214 rfl ?_
                    refine vm_iald (pc := 215) O hR 20 rfl rfl h_t (x := (s 20 t)) ((congrFun (refS_g (by decide)) _).trans ((sset_f (by decide)).trans ((sset_f (by decide)).trans rfl))) dX5_commit_215 ?_
                    refine vm_iast (pc := 216) O hR 19 rfl rfl h_t dX5_commit_216 (fun μ hR => ?_)
                    refine v_aload_n (pc := 217) O dX5_commit_217 rfl ?_
                    refine v_iload_n (pc := 218) O dX5_commit_218 rfl ?_
                    refine v_callVi0 (pc := 219) (nA := 1) O (mm_hasAllIntents (xL X) Γ ad t h_t hR) hR.1 rfl q2239 q2241 qs31 q71 q2242 (by decide +kernel) rfl rfl rfl rfl (Nat.le_of_ble_eq_true rfl) (Nat.le_refl _) (Nat.le_refl _) dX5_commit_219 (fun x μ h => ?_)
                    obtain ⟨rfl, hR⟩ := h
                    refine v_if_ne_b (pc := 222) (tgt := 235) O dX5_commit_222 (by decide) (fun c_222 => ?_) (fun c_222 => ?_)
                    · refine v_iload_n (pc := 235) O dX5_commit_235 rfl ?_
                      refine v_if_eq (pc := 236) (tgt := 254) O dX5_commit_236 (by decide) (fun c_236 => ?_) (fun c_236 => ?_)
                      · refine v_aload_n (pc := 254) O dX5_commit_254 rfl ?_
                        refine v_iload_n (pc := 255) O dX5_commit_255 rfl ?_
                        refine v_callVv0 (pc := 256) (nA := 1) O (mm_commits (xL X) Γ ad t hB hn h_t (WfM.oth (WfM.refs hB (WfM.s24 (WfM.oth hW (by decide)) ⟨by decide, by decide⟩)) (by decide)) hR) hR.1 rfl q2243 q2245 qs32 q71 q2246 (by decide +kernel) rfl rfl rfl rfl (Nat.le_of_ble_eq_true rfl) (Nat.le_refl _) (Nat.le_refl _) dX5_commit_256 (fun μ hR => ?_)
                        refine v_iconst (pc := 259) O (x := 0) dX5_commit_259 (by decide) ?_
                        exact v_iret (pc := 260) O hr (Nat.le_refl _) (Nat.le_refl _) dX5_commit_260 ⟨_, rfl, ⟨by simp [commitO, comEnd, b2i, sset_f, sset_eq, asks_oth, closed_oth, cnt29_oth, r19, r20, sset_id, hdB_oth, hdf, c_5, c_18, c_119, c_176, c_190, c_222, c_236], by simpa [commitO, comEnd, b2i, sset_f, sset_eq, asks_oth, closed_oth, cnt29_oth, r19, r20, sset_id, hdB_oth, hdf, c_5, c_18, c_119, c_176, c_190, c_222, c_236] using hR⟩⟩
                      · refine v_iload (pc := 239) O dX5_commit_239 rfl ?_
                        refine v_if_eq (pc := 241) (tgt := 254) O dX5_commit_241 (by decide) (fun _ => ?_) (fun c => absurd (by decide) c)
                        refine v_aload_n (pc := 254) O dX5_commit_254 rfl ?_
                        refine v_iload_n (pc := 255) O dX5_commit_255 rfl ?_
                        refine v_callVv0 (pc := 256) (nA := 1) O (mm_commits (xL X) Γ ad t hB hn h_t (WfM.oth (WfM.refs hB (WfM.s24 (WfM.oth hW (by decide)) ⟨by decide, by decide⟩)) (by decide)) hR) hR.1 rfl q2243 q2245 qs32 q71 q2246 (by decide +kernel) rfl rfl rfl rfl (Nat.le_of_ble_eq_true rfl) (Nat.le_refl _) (Nat.le_refl _) dX5_commit_256 (fun μ hR => ?_)
                        refine v_iconst (pc := 259) O (x := 0) dX5_commit_259 (by decide) ?_
                        exact v_iret (pc := 260) O hr (Nat.le_refl _) (Nat.le_refl _) dX5_commit_260 ⟨_, rfl, ⟨by simp [commitO, comEnd, b2i, sset_f, sset_eq, asks_oth, closed_oth, cnt29_oth, r19, r20, sset_id, hdB_oth, hdf, c_5, c_18, c_119, c_176, c_190, c_222, c_236], by simpa [commitO, comEnd, b2i, sset_f, sset_eq, asks_oth, closed_oth, cnt29_oth, r19, r20, sset_id, hdB_oth, hdf, c_5, c_18, c_119, c_176, c_190, c_222, c_236] using hR⟩⟩
                    · refine v_aload_n (pc := 225) O dX5_commit_225 rfl ?_
                      refine vm_get (pc := 226) O hR 23 rfl q2066 rfl dX5_commit_226 ?_
                      refine v_iload_n (pc := 229) O dX5_commit_229 rfl ?_
                      refine v_iconst (pc := 230) O (x := 3) dX5_commit_230 (by decide) ?_
                      refine vm_iast (pc := 231) O hR 23 rfl rfl h_t dX5_commit_231 (fun μ hR => ?_)
                      refine v_bipush (pc := 232) O (x := -13) dX5_commit_232 (by decide) ?_
                      exact v_iret (pc := 234) O hr (Nat.le_refl _) (Nat.le_refl _) dX5_commit_234 ⟨_, rfl, ⟨by simp [commitO, comEnd, b2i, sset_f, sset_eq, asks_oth, closed_oth, cnt29_oth, r19, r20, sset_id, hdB_oth, hdf, c_5, c_18, c_119, c_176, c_190, c_222], by simpa [commitO, comEnd, b2i, sset_f, sset_eq, asks_oth, closed_oth, cnt29_oth, r19, r20, sset_id, hdB_oth, hdf, c_5, c_18, c_119, c_176, c_190, c_222] using hR⟩⟩
                  · refine v_aload_n (pc := 193) O dX5_commit_193 rfl ?_
                    refine v_iload_n (pc := 194) O dX5_commit_194 rfl ?_
                    refine v_aload_n (pc := 195) O dX5_commit_195 rfl ?_
                    refine vm_get (pc := 196) O hR 20 rfl q2063 rfl dX5_commit_196 ?_
                    refine v_iload_n (pc := 199) O dX5_commit_199 rfl ?_
                    refine vm_iald (pc := 200) O hR 20 rfl rfl h_t (x := (s 20 t)) ((congrFun (refS_g (by decide)) _).trans ((sset_f (by decide)).trans ((sset_f (by decide)).trans rfl))) dX5_commit_200 ?_
                    refine v_callVi0 (pc := 201) (nA := 2) O (mm_restarts (xL X) Γ ad t (s 20 t) h_t hR) hR.1 rfl q2275 q2277 qs40 q71 q2278 (by decide +kernel) rfl rfl rfl rfl (Nat.le_of_ble_eq_true rfl) (Nat.le_refl _) (Nat.le_refl _) dX5_commit_201 (fun x μ h => ?_)
                    obtain ⟨rfl, hR⟩ := h
                    exact v_iret (pc := 204) O hr (Nat.le_refl _) (Nat.le_refl _) dX5_commit_204 ⟨_, rfl, ⟨by simp [commitO, comEnd, b2i, sset_f, sset_eq, asks_oth, closed_oth, cnt29_oth, r19, r20, sset_id, hdB_oth, hdf, c_5, c_18, c_119, c_176, c_190], by simpa [commitO, comEnd, b2i, sset_f, sset_eq, asks_oth, closed_oth, cnt29_oth, r19, r20, sset_id, hdB_oth, hdf, c_5, c_18, c_119, c_176, c_190] using hR⟩⟩
              · refine v_iconst (pc := 122) O (x := 1) dX5_commit_122 (by decide) ?_
                refine v_goto (pc := 123) O (tgt := 127) dX5_commit_123 (by decide) ?_
                refine v_istore (pc := 127) (lv' := [(5, .int 1), (4, .int v40_4), (3, .int t), (0, .ref (ad 0)), (1, .int t), (2, .int stg)]) O dX5_commit_127 rfl rfl ?_
                refine v_aload_n (pc := 129) O dX5_commit_129 rfl ?_
                refine vm_get (pc := 130) O hR 20 rfl q2063 rfl dX5_commit_130 ?_
                refine v_iload_n (pc := 133) O dX5_commit_133 rfl ?_
                refine v_iload (pc := 134) O dX5_commit_134 rfl ?_
                refine v_if_eq (pc := 136) (tgt := 157) O dX5_commit_136 (by decide) (fun c => absurd c (by decide)) (fun _ => ?_)
                refine v_aload_n (pc := 139) O dX5_commit_139 rfl ?_
                refine vm_get (pc := 140) O hR 20 rfl q2063 rfl dX5_commit_140 ?_
                refine v_iload_n (pc := 143) O dX5_commit_143 rfl ?_
                refine vm_iald (pc := 144) O hR 20 rfl rfl h_t (x := (s 20 t)) ((sset_f (by decide)).trans ((sset_f (by decide)).trans rfl)) dX5_commit_144 ?_
                refine v_aload_n (pc := 145) O dX5_commit_145 rfl ?_
                refine v_callVi0 (pc := 146) (nA := 0) O (mm_closedNow (xL X) Γ ad hR) hR.1 rfl q2171 q2173 qs22 q71 q2174 (by decide +kernel) rfl rfl rfl rfl (Nat.le_of_ble_eq_true rfl) (Nat.le_refl _) (Nat.le_refl _) dX5_commit_146 (fun x μ h => ?_)
                obtain ⟨hx, hR⟩ := h
                rw [closed_oth (by decide), closed_oth (by decide)] at hx
                subst hx
                refine v_iconst (pc := 149) O (x := 1) dX5_commit_149 (by decide) ?_
                refine v_iadd (pc := 150) O dX5_commit_150 ?_
                refine v_callSi0 (pc := 151) (nA := 2) O (mm_greater (xL X) Γ (s 20 t) ((closedF s) + 1) _) q2164 q2165 q71 q2166 (by decide +kernel) rfl rfl rfl rfl (Nat.le_of_ble_eq_true rfl) (Nat.le_refl _) (Nat.le_refl _) dX5_commit_151 (fun x μ1 h => ?_)
                obtain ⟨rfl, rfl⟩ := h
                refine v_goto (pc := 154) O (tgt := 163) dX5_commit_154 (by decide) ?_
                refine vm_iast (pc := 163) O hR 20 rfl rfl h_t dX5_commit_163 (fun μ hR => ?_)
                refine v_aload_n (pc := 164) O dX5_commit_164 rfl ?_
                refine vm_get (pc := 165) O hR 20 rfl q2063 rfl dX5_commit_165 ?_
                refine v_iload_n (pc := 168) O dX5_commit_168 rfl ?_
                refine vm_iald (pc := 169) O hR 20 rfl rfl h_t (x := (gt2 (s 20 t) ((closedF s) + 1))) sset_eq dX5_commit_169 ?_
                refine v_aload_n (pc := 170) O dX5_commit_170 rfl ?_
                refine vm_get (pc := 171) O hR 19 rfl q2062 rfl dX5_commit_171 ?_
                refine v_iload_n (pc := 174) O dX5_commit_174 rfl ?_
                refine vm_iald (pc := 175) O hR 19 rfl rfl h_t (x := (s 19 t)) ((sset_f (by decide)).trans ((sset_f (by decide)).trans ((sset_f (by decide)).trans rfl))) dX5_commit_175 ?_
                refine v_icmp_le (pc := 176) (tgt := 217) O dX5_commit_176 (by decide) (fun c_176 => ?_) (fun c_176 => ?_)
                · refine v_aload_n (pc := 217) O dX5_commit_217 rfl ?_
                  refine v_iload_n (pc := 218) O dX5_commit_218 rfl ?_
                  refine v_callVi0 (pc := 219) (nA := 1) O (mm_hasAllIntents (xL X) Γ ad t h_t hR) hR.1 rfl q2239 q2241 qs31 q71 q2242 (by decide +kernel) rfl rfl rfl rfl (Nat.le_of_ble_eq_true rfl) (Nat.le_refl _) (Nat.le_refl _) dX5_commit_219 (fun x μ h => ?_)
                  obtain ⟨rfl, hR⟩ := h
                  refine v_if_ne_b (pc := 222) (tgt := 235) O dX5_commit_222 (by decide) (fun c_222 => ?_) (fun c_222 => ?_)
                  · refine v_iload_n (pc := 235) O dX5_commit_235 rfl ?_
                    refine v_if_eq (pc := 236) (tgt := 254) O dX5_commit_236 (by decide) (fun c_236 => ?_) (fun c_236 => ?_)
                    · refine v_aload_n (pc := 254) O dX5_commit_254 rfl ?_
                      refine v_iload_n (pc := 255) O dX5_commit_255 rfl ?_
                      refine v_callVv0 (pc := 256) (nA := 1) O (mm_commits (xL X) Γ ad t hB hn h_t (WfM.oth (WfM.s24 (WfM.oth hW (by decide)) ⟨by decide, by decide⟩) (by decide)) hR) hR.1 rfl q2243 q2245 qs32 q71 q2246 (by decide +kernel) rfl rfl rfl rfl (Nat.le_of_ble_eq_true rfl) (Nat.le_refl _) (Nat.le_refl _) dX5_commit_256 (fun μ hR => ?_)
                      refine v_iconst (pc := 259) O (x := 0) dX5_commit_259 (by decide) ?_
                      exact v_iret (pc := 260) O hr (Nat.le_refl _) (Nat.le_refl _) dX5_commit_260 ⟨_, rfl, ⟨by simp [commitO, comEnd, b2i, sset_f, sset_eq, asks_oth, closed_oth, cnt29_oth, r19, r20, sset_id, hdB_oth, hdf, c_5, c_18, c_119, c_176, c_222, c_236], by simpa [commitO, comEnd, b2i, sset_f, sset_eq, asks_oth, closed_oth, cnt29_oth, r19, r20, sset_id, hdB_oth, hdf, c_5, c_18, c_119, c_176, c_222, c_236] using hR⟩⟩
                    · refine v_iload (pc := 239) O dX5_commit_239 rfl ?_
                      refine v_if_eq (pc := 241) (tgt := 254) O dX5_commit_241 (by decide) (fun c => absurd c (by decide)) (fun _ => ?_)
                      refine v_aload_n (pc := 244) O dX5_commit_244 rfl ?_
                      refine vm_get (pc := 245) O hR 23 rfl q2066 rfl dX5_commit_245 ?_
                      refine v_iload_n (pc := 248) O dX5_commit_248 rfl ?_
                      refine v_iconst (pc := 249) O (x := 1) dX5_commit_249 (by decide) ?_
                      refine vm_iast (pc := 250) O hR 23 rfl rfl h_t dX5_commit_250 (fun μ hR => ?_)
                      refine v_goto (pc := 251) O (tgt := 259) dX5_commit_251 (by decide) ?_
                      refine v_iconst (pc := 259) O (x := 0) dX5_commit_259 (by decide) ?_
                      exact v_iret (pc := 260) O hr (Nat.le_refl _) (Nat.le_refl _) dX5_commit_260 ⟨_, rfl, ⟨by simp [commitO, comEnd, b2i, sset_f, sset_eq, asks_oth, closed_oth, cnt29_oth, r19, r20, sset_id, hdB_oth, hdf, c_5, c_18, c_119, c_176, c_222, c_236], by simpa [commitO, comEnd, b2i, sset_f, sset_eq, asks_oth, closed_oth, cnt29_oth, r19, r20, sset_id, hdB_oth, hdf, c_5, c_18, c_119, c_176, c_222, c_236] using hR⟩⟩
                  · refine v_aload_n (pc := 225) O dX5_commit_225 rfl ?_
                    refine vm_get (pc := 226) O hR 23 rfl q2066 rfl dX5_commit_226 ?_
                    refine v_iload_n (pc := 229) O dX5_commit_229 rfl ?_
                    refine v_iconst (pc := 230) O (x := 3) dX5_commit_230 (by decide) ?_
                    refine vm_iast (pc := 231) O hR 23 rfl rfl h_t dX5_commit_231 (fun μ hR => ?_)
                    refine v_bipush (pc := 232) O (x := -13) dX5_commit_232 (by decide) ?_
                    exact v_iret (pc := 234) O hr (Nat.le_refl _) (Nat.le_refl _) dX5_commit_234 ⟨_, rfl, ⟨by simp [commitO, comEnd, b2i, sset_f, sset_eq, asks_oth, closed_oth, cnt29_oth, r19, r20, sset_id, hdB_oth, hdf, c_5, c_18, c_119, c_176, c_222], by simpa [commitO, comEnd, b2i, sset_f, sset_eq, asks_oth, closed_oth, cnt29_oth, r19, r20, sset_id, hdB_oth, hdf, c_5, c_18, c_119, c_176, c_222] using hR⟩⟩
                · refine v_aload_n (pc := 179) O dX5_commit_179 rfl ?_
                  refine v_iload_n (pc := 180) O dX5_commit_180 rfl ?_
                  refine v_aload_n (pc := 181) O dX5_commit_181 rfl ?_
                  refine vm_get (pc := 182) O hR 20 rfl q2063 rfl dX5_commit_182 ?_
                  refine v_iload_n (pc := 185) O dX5_commit_185 rfl ?_
                  refine vm_iald (pc := 186) O hR 20 rfl rfl h_t (x := (gt2 (s 20 t) ((closedF s) + 1))) sset_eq dX5_commit_186 ?_
                  refine v_callVi0 (pc := 187) (nA := 2) O (mm_refreshes (xL X) Γ ad t (gt2 (s 20 t) ((closedF s) + 1)) hB h_t (WfM.oth (WfM.s24 (WfM.oth hW (by decide)) ⟨by decide, by decide⟩) (by decide)) hR) hR.1 rfl q2267 q2269 qs38 q71 q2270 (by decide +kernel) rfl rfl rfl rfl (Nat.le_of_ble_eq_true rfl) (Nat.le_refl _) (Nat.le_refl _) dX5_commit_187 (fun x μ h => ?_)
                  obtain ⟨rfl, hR⟩ := h
                  refine v_if_ne_b (pc := 190) (tgt := 205) O dX5_commit_190 (by decide) (fun c_190 => ?_) (fun c_190 => ?_)
                  · refine v_aload_n (pc := 205) O dX5_commit_205 rfl ?_
                    refine vm_get (pc := 206) O hR 19 rfl q2062 rfl dX5_commit_206 ?_
                    refine v_iload_n (pc := 209) O dX5_commit_209 rfl ?_
                    refine v_aload_n (pc := 210) O dX5_commit_210 rfl ?_
                    refine vm_get (pc := 211) O hR 20 rfl q2063 rfl dX5_commit_211 ?_
                    refine v_iload_n (pc := 214) O dX5_commit_214 rfl ?_
                    refine vm_iald (pc := 215) O hR 20 rfl rfl h_t (x := (gt2 (s 20 t) ((closedF s) + 1))) ((congrFun (refS_g (by decide)) _).trans sset_eq) dX5_commit_215 ?_
                    refine vm_iast (pc := 216) O hR 19 rfl rfl h_t dX5_commit_216 (fun μ hR => ?_)
                    refine v_aload_n (pc := 217) O dX5_commit_217 rfl ?_
                    refine v_iload_n (pc := 218) O dX5_commit_218 rfl ?_
                    refine v_callVi0 (pc := 219) (nA := 1) O (mm_hasAllIntents (xL X) Γ ad t h_t hR) hR.1 rfl q2239 q2241 qs31 q71 q2242 (by decide +kernel) rfl rfl rfl rfl (Nat.le_of_ble_eq_true rfl) (Nat.le_refl _) (Nat.le_refl _) dX5_commit_219 (fun x μ h => ?_)
                    obtain ⟨rfl, hR⟩ := h
                    refine v_if_ne_b (pc := 222) (tgt := 235) O dX5_commit_222 (by decide) (fun c_222 => ?_) (fun c_222 => ?_)
                    · refine v_iload_n (pc := 235) O dX5_commit_235 rfl ?_
                      refine v_if_eq (pc := 236) (tgt := 254) O dX5_commit_236 (by decide) (fun c_236 => ?_) (fun c_236 => ?_)
                      · refine v_aload_n (pc := 254) O dX5_commit_254 rfl ?_
                        refine v_iload_n (pc := 255) O dX5_commit_255 rfl ?_
                        refine v_callVv0 (pc := 256) (nA := 1) O (mm_commits (xL X) Γ ad t hB hn h_t (WfM.oth (WfM.refs hB (WfM.oth (WfM.s24 (WfM.oth hW (by decide)) ⟨by decide, by decide⟩) (by decide))) (by decide)) hR) hR.1 rfl q2243 q2245 qs32 q71 q2246 (by decide +kernel) rfl rfl rfl rfl (Nat.le_of_ble_eq_true rfl) (Nat.le_refl _) (Nat.le_refl _) dX5_commit_256 (fun μ hR => ?_)
                        refine v_iconst (pc := 259) O (x := 0) dX5_commit_259 (by decide) ?_
                        exact v_iret (pc := 260) O hr (Nat.le_refl _) (Nat.le_refl _) dX5_commit_260 ⟨_, rfl, ⟨by simp [commitO, comEnd, b2i, sset_f, sset_eq, asks_oth, closed_oth, cnt29_oth, r19, r20, sset_id, hdB_oth, hdf, c_5, c_18, c_119, c_176, c_190, c_222, c_236], by simpa [commitO, comEnd, b2i, sset_f, sset_eq, asks_oth, closed_oth, cnt29_oth, r19, r20, sset_id, hdB_oth, hdf, c_5, c_18, c_119, c_176, c_190, c_222, c_236] using hR⟩⟩
                      · refine v_iload (pc := 239) O dX5_commit_239 rfl ?_
                        refine v_if_eq (pc := 241) (tgt := 254) O dX5_commit_241 (by decide) (fun c => absurd c (by decide)) (fun _ => ?_)
                        refine v_aload_n (pc := 244) O dX5_commit_244 rfl ?_
                        refine vm_get (pc := 245) O hR 23 rfl q2066 rfl dX5_commit_245 ?_
                        refine v_iload_n (pc := 248) O dX5_commit_248 rfl ?_
                        refine v_iconst (pc := 249) O (x := 1) dX5_commit_249 (by decide) ?_
                        refine vm_iast (pc := 250) O hR 23 rfl rfl h_t dX5_commit_250 (fun μ hR => ?_)
                        refine v_goto (pc := 251) O (tgt := 259) dX5_commit_251 (by decide) ?_
                        refine v_iconst (pc := 259) O (x := 0) dX5_commit_259 (by decide) ?_
                        exact v_iret (pc := 260) O hr (Nat.le_refl _) (Nat.le_refl _) dX5_commit_260 ⟨_, rfl, ⟨by simp [commitO, comEnd, b2i, sset_f, sset_eq, asks_oth, closed_oth, cnt29_oth, r19, r20, sset_id, hdB_oth, hdf, c_5, c_18, c_119, c_176, c_190, c_222, c_236], by simpa [commitO, comEnd, b2i, sset_f, sset_eq, asks_oth, closed_oth, cnt29_oth, r19, r20, sset_id, hdB_oth, hdf, c_5, c_18, c_119, c_176, c_190, c_222, c_236] using hR⟩⟩
                    · refine v_aload_n (pc := 225) O dX5_commit_225 rfl ?_
                      refine vm_get (pc := 226) O hR 23 rfl q2066 rfl dX5_commit_226 ?_
                      refine v_iload_n (pc := 229) O dX5_commit_229 rfl ?_
                      refine v_iconst (pc := 230) O (x := 3) dX5_commit_230 (by decide) ?_
                      refine vm_iast (pc := 231) O hR 23 rfl rfl h_t dX5_commit_231 (fun μ hR => ?_)
                      refine v_bipush (pc := 232) O (x := -13) dX5_commit_232 (by decide) ?_
                      exact v_iret (pc := 234) O hr (Nat.le_refl _) (Nat.le_refl _) dX5_commit_234 ⟨_, rfl, ⟨by simp [commitO, comEnd, b2i, sset_f, sset_eq, asks_oth, closed_oth, cnt29_oth, r19, r20, sset_id, hdB_oth, hdf, c_5, c_18, c_119, c_176, c_190, c_222], by simpa [commitO, comEnd, b2i, sset_f, sset_eq, asks_oth, closed_oth, cnt29_oth, r19, r20, sset_id, hdB_oth, hdf, c_5, c_18, c_119, c_176, c_190, c_222] using hR⟩⟩
                  · refine v_aload_n (pc := 193) O dX5_commit_193 rfl ?_
                    refine v_iload_n (pc := 194) O dX5_commit_194 rfl ?_
                    refine v_aload_n (pc := 195) O dX5_commit_195 rfl ?_
                    refine vm_get (pc := 196) O hR 20 rfl q2063 rfl dX5_commit_196 ?_
                    refine v_iload_n (pc := 199) O dX5_commit_199 rfl ?_
                    refine vm_iald (pc := 200) O hR 20 rfl rfl h_t (x := (gt2 (s 20 t) ((closedF s) + 1))) ((congrFun (refS_g (by decide)) _).trans sset_eq) dX5_commit_200 ?_
                    refine v_callVi0 (pc := 201) (nA := 2) O (mm_restarts (xL X) Γ ad t (gt2 (s 20 t) ((closedF s) + 1)) h_t hR) hR.1 rfl q2275 q2277 qs40 q71 q2278 (by decide +kernel) rfl rfl rfl rfl (Nat.le_of_ble_eq_true rfl) (Nat.le_refl _) (Nat.le_refl _) dX5_commit_201 (fun x μ h => ?_)
                    obtain ⟨rfl, hR⟩ := h
                    exact v_iret (pc := 204) O hr (Nat.le_refl _) (Nat.le_refl _) dX5_commit_204 ⟨_, rfl, ⟨by simp [commitO, comEnd, b2i, sset_f, sset_eq, asks_oth, closed_oth, cnt29_oth, r19, r20, sset_id, hdB_oth, hdf, c_5, c_18, c_119, c_176, c_190], by simpa [commitO, comEnd, b2i, sset_f, sset_eq, asks_oth, closed_oth, cnt29_oth, r19, r20, sset_id, hdB_oth, hdf, c_5, c_18, c_119, c_176, c_190] using hR⟩⟩
            · have hdf : hasDownB s t = true := by rw [hd0]; simp [c_97]
              refine v_bipush (pc := 100) O (x := -14) dX5_commit_100 (by decide) ?_
              exact v_iret (pc := 102) O hr (Nat.le_refl _) (Nat.le_refl _) dX5_commit_102 ⟨_, rfl, ⟨by simp [commitO, comEnd, b2i, sset_f, sset_eq, asks_oth, closed_oth, cnt29_oth, r19, r20, sset_id, hdB_oth, hdf, c_5, c_18], by simpa [commitO, comEnd, b2i, sset_f, sset_eq, asks_oth, closed_oth, cnt29_oth, r19, r20, sset_id, hdB_oth, hdf, c_5, c_18] using hR⟩⟩
          · have hj40lt := lp_in rfl (by decide) hj40 c_44
            refine v_iload (pc := 47) O dX5_commit_47 rfl ?_
            refine v_if_ne (pc := 49) (tgt := 82) O dX5_commit_49 (by decide) (fun c_49 => ?_) (fun c_49 => ?_)
            · refine v_iconst (pc := 82) O (x := 1) dX5_commit_82 (by decide) ?_
              refine v_goto (pc := 83) O (tgt := 87) dX5_commit_83 (by decide) ?_
              refine v_istore (pc := 87) (lv' := [(4, .int 1), (5, .int (nI j40)), (3, .int t), (0, .ref (ad 0)), (1, .int t), (2, .int stg)]) O dX5_commit_87 rfl rfl ?_
              refine v_iinc (pc := 89) (y := (nI (j40 + 1))) (lv' := [(5, .int (nI (j40 + 1))), (4, .int 1), (3, .int t), (0, .ref (ad 0)), (1, .int t), (2, .int stg)]) O dX5_commit_89 rfl (nI_inc _) rfl rfl ?_
              refine v_goto (pc := 92) O (tgt := 40) dX5_commit_92 (by decide) ?_
              exact v_locs [0, 1, 2, 3, 4, 5] rfl (ih40 (j40 + 1) 1 _ (by omega) (by omega) (by rw [List.range_succ, List.any_append, ← Bool.or_assoc, ← he40]; simp [c_49])  hR)
            · refine v_aload_n (pc := 52) O dX5_commit_52 rfl ?_
              refine vm_get (pc := 53) O hR 29 rfl q2072 rfl dX5_commit_53 ?_
              refine v_bipush (pc := 56) O (x := 32) dX5_commit_56 (by decide) ?_
              refine v_iload_n (pc := 58) O dX5_commit_58 rfl ?_
              refine v_imul (pc := 59) O dX5_commit_59 ?_
              refine v_iload (pc := 60) O dX5_commit_60 rfl ?_
              refine v_iadd (pc := 62) O dX5_commit_62 ?_
              refine vm_iald (pc := 63) O hR 29 rfl rfl (ir_32 h_t hj40lt) (x := (s 29 ((32 * t) + (nI j40)))) ((sset_f (by decide)).trans rfl) dX5_commit_63 ?_
              refine v_iconst (pc := 64) O (x := -1) dX5_commit_64 (by decide) ?_
              refine v_icmp_eq (pc := 65) (tgt := 86) O dX5_commit_65 (by decide) (fun c_65 => ?_) (fun c_65 => ?_)
              · refine v_iconst (pc := 86) O (x := 0) dX5_commit_86 (by decide) ?_
                refine v_istore (pc := 87) (lv' := [(4, .int 0), (5, .int (nI j40)), (3, .int t), (0, .ref (ad 0)), (1, .int t), (2, .int stg)]) O dX5_commit_87 rfl rfl ?_
                refine v_iinc (pc := 89) (y := (nI (j40 + 1))) (lv' := [(5, .int (nI (j40 + 1))), (4, .int 0), (3, .int t), (0, .ref (ad 0)), (1, .int t), (2, .int stg)]) O dX5_commit_89 rfl (nI_inc _) rfl rfl ?_
                refine v_goto (pc := 92) O (tgt := 40) dX5_commit_92 (by decide) ?_
                exact v_locs [0, 1, 2, 3, 4, 5] rfl (ih40 (j40 + 1) 0 _ (by omega) (by omega) (by rw [List.range_succ, List.any_append, ← Bool.or_assoc, ← he40]; simp [c_49, c_65])  hR)
              · refine v_aload_n (pc := 68) O dX5_commit_68 rfl ?_
                refine vm_get (pc := 69) O hR 3 rfl q2046 rfl dX5_commit_69 ?_
                refine v_aload_n (pc := 72) O dX5_commit_72 rfl ?_
                refine v_iload (pc := 73) O dX5_commit_73 rfl ?_
                refine v_callVi0 (pc := 75) (nA := 1) O (mm_nodeOf (xL X) Γ ad (nI j40) (WfM.oth hW (by decide)) hR) hR.1 rfl q2179 q2181 qs23 q71 q2182 (by decide +kernel) rfl rfl rfl rfl (Nat.le_of_ble_eq_true rfl) (Nat.le_refl _) (Nat.le_refl _) dX5_commit_75 (fun x μ h => ?_)
                obtain ⟨hx, hR⟩ := h
                rw [node_oth (by decide) (by decide) (by decide)] at hx
                subst hx
                refine vm_zald (pc := 78) O hR 3 rfl rfl (hW.node _) (x := (s 3 (nodeOfF s (nI j40)))) ((sset_f (by decide)).trans rfl) dX5_commit_78 ?_
                refine v_if_eq (pc := 79) (tgt := 86) O dX5_commit_79 (by decide) (fun c_79 => ?_) (fun c_79 => ?_)
                · refine v_iconst (pc := 86) O (x := 0) dX5_commit_86 (by decide) ?_
                  refine v_istore (pc := 87) (lv' := [(4, .int 0), (5, .int (nI j40)), (3, .int t), (0, .ref (ad 0)), (1, .int t), (2, .int stg)]) O dX5_commit_87 rfl rfl ?_
                  refine v_iinc (pc := 89) (y := (nI (j40 + 1))) (lv' := [(5, .int (nI (j40 + 1))), (4, .int 0), (3, .int t), (0, .ref (ad 0)), (1, .int t), (2, .int stg)]) O dX5_commit_89 rfl (nI_inc _) rfl rfl ?_
                  refine v_goto (pc := 92) O (tgt := 40) dX5_commit_92 (by decide) ?_
                  exact v_locs [0, 1, 2, 3, 4, 5] rfl (ih40 (j40 + 1) 0 _ (by omega) (by omega) (by rw [List.range_succ, List.any_append, ← Bool.or_assoc, ← he40]; simp [c_49, c_65, c_79])  hR)
                · refine v_iconst (pc := 82) O (x := 1) dX5_commit_82 (by decide) ?_
                  refine v_goto (pc := 83) O (tgt := 87) dX5_commit_83 (by decide) ?_
                  refine v_istore (pc := 87) (lv' := [(4, .int 1), (5, .int (nI j40)), (3, .int t), (0, .ref (ad 0)), (1, .int t), (2, .int stg)]) O dX5_commit_87 rfl rfl ?_
                  refine v_iinc (pc := 89) (y := (nI (j40 + 1))) (lv' := [(5, .int (nI (j40 + 1))), (4, .int 1), (3, .int t), (0, .ref (ad 0)), (1, .int t), (2, .int stg)]) O dX5_commit_89 rfl (nI_inc _) rfl rfl ?_
                  refine v_goto (pc := 92) O (tgt := 40) dX5_commit_92 (by decide) ?_
                  exact v_locs [0, 1, 2, 3, 4, 5] rfl (ih40 (j40 + 1) 1 _ (by omega) (by omega) (by rw [List.range_succ, List.any_append, ← Bool.or_assoc, ← he40]; simp [c_49, c_65, c_79])  hR)
      exact v_locs [0, 1, 2, 3, 4, 5] rfl (L40 (32 + 1) 0 (s 3 (s 17 t)) _ (by omega) (by omega) (by simp)  hR)
    · refine v_bipush (pc := 21) O (x := -13) dX5_commit_21 (by decide) ?_
      exact v_iret (pc := 23) O hr (Nat.le_refl _) (Nat.le_refl _) dX5_commit_23 ⟨_, rfl, ⟨by simp [commitO, comEnd, b2i, sset_f, sset_eq, asks_oth, closed_oth, cnt29_oth, r19, r20, sset_id, hdB_oth, c_5, c_18], by simpa [commitO, comEnd, b2i, sset_f, sset_eq, asks_oth, closed_oth, cnt29_oth, r19, r20, sset_id, hdB_oth, c_5, c_18] using hR⟩⟩
  · refine v_iconst (pc := 8) O (x := 0) dX5_commit_8 (by decide) ?_
    exact v_iret (pc := 9) O hr (Nat.le_refl _) (Nat.le_refl _) dX5_commit_9 ⟨_, rfl, ⟨by simp [commitO, comEnd, b2i, sset_f, sset_eq, asks_oth, closed_oth, cnt29_oth, r19, r20, sset_id, hdB_oth, c_5], by simpa [commitO, comEnd, b2i, sset_f, sset_eq, asks_oth, closed_oth, cnt29_oth, r19, r20, sset_id, hdB_oth, c_5] using hR⟩⟩
theorem opensS_n {σ : St} {t key : Int32} (h : ¬ opensF σ t key = 0) : opensS σ t key = σ := if_neg h
theorem m10 {σ : St} {t key j : Int32} : meetsS σ t key 10 j = σ 10 j := congrFun (meetsS_g (by decide)) j
theorem m11 {σ : St} {t key j : Int32} : meetsS σ t key 11 j = σ 11 j := congrFun (meetsS_g (by decide)) j
theorem lat_eq {σ : St} {o x key th : Int32} : latestF σ key th = latestF (sset σ 20 o x) key th := (lat_oth (by decide) (by decide) (by decide)).symm
theorem gt_19 {x y : Int32} (h : 0 ≤ x) (c : ¬ y ≤ x) : 0 ≤ y := by
  rw [i_le] at h c ⊢
  have e0 : (0 : Int32).toInt = 0 := by decide
  omega
set_option maxHeartbeats 4000000 in
theorem mm_get (l : Launch) (Γ : Gm) (ad : Nat → Nat) (t key : Int32) {s : St} {μ0 : Mem} {B : Nat} (hB : B ≤ 1000) (hW : WfM B s) (h19 : ∀ t, 0 ≤ s 19 t) (hR : RepM Γ ad s μ0) : MetV l Γ yX5_get cX5_get 10 (some .int) 5 0 0 [.ref (ad 0), .int t, .int key] μ0 (PI (fun r9 μ1 => r9 = (getO s t key).2 ∧ RepM Γ ad ((getO s t key).1) μ1)) := by
  refine MetV.of (by decide +kernel) rfl ?_
  intro X sz hl hr hnm O
  subst hl
  show V X Γ _ 10 _ 0 0 μ0 0 [(0, .ref (ad 0)), (1, .int t), (2, .int key)] []
  refine v_aload_n (pc := 0) O dX5_get_0 rfl ?_
  refine v_iload_n (pc := 1) O dX5_get_1 rfl ?_
  refine v_iload_n (pc := 2) O dX5_get_2 rfl ?_
  refine v_callVi0 (pc := 3) (nA := 2) O (mm_areThere (xL X) Γ ad t key hR) hR.1 rfl q2223 q2225 qs27 q71 q2226 (by decide +kernel) rfl rfl rfl rfl (Nat.le_of_ble_eq_true rfl) (Nat.le_refl _) (Nat.le_refl _) dX5_get_3 (fun x μ h => ?_)
  obtain ⟨rfl, hR⟩ := h
  refine v_if_ne_b (pc := 6) (tgt := 11) O dX5_get_6 (by decide) (fun c_6 => ?_) (fun c_6 => ?_)
  · have hR : RepM Γ ad (sset s 31 0 0) μ := by simpa [c_6, b2i] using hR
    have h_t := (th_ir hW c_6).1
    have h_key := (th_ir hW c_6).2
    refine v_iload_n (pc := 11) O dX5_get_11 rfl ?_
    refine v_istore_n (pc := 12) (lv' := [(3, .int t), (0, .ref (ad 0)), (1, .int t), (2, .int key)]) O dX5_get_12 rfl rfl ?_
    refine v_aload_n (pc := 13) O dX5_get_13 rfl ?_
    refine v_iload_n (pc := 14) O dX5_get_14 rfl ?_
    refine v_iload_n (pc := 15) O dX5_get_15 rfl ?_
    refine v_callVi0 (pc := 16) (nA := 2) O (mm_opens (xL X) Γ ad t key h_t (WfM.oth hW (by decide)) hR) hR.1 rfl q2227 q2229 qs28 q71 q2230 (by decide +kernel) rfl rfl rfl rfl (Nat.le_of_ble_eq_true rfl) (Nat.le_refl _) (Nat.le_refl _) dX5_get_16 (fun x μ h => ?_)
    obtain ⟨rfl, hR⟩ := h
    refine v_istore (pc := 19) (lv' := [(4, .int (opensF (sset s 31 0 0) t key)), (3, .int t), (0, .ref (ad 0)), (1, .int t), (2, .int key)]) O dX5_get_19 rfl rfl ?_
    refine v_iload (pc := 21) O dX5_get_21 rfl ?_
    refine v_if_eq (pc := 23) (tgt := 29) O dX5_get_23 (by decide) (fun c_23 => ?_) (fun c_23 => ?_)
    · have h23s := opens23 c_23
      obtain ⟨s1, hs1⟩ : ∃ z, z = (opensS (sset s 31 0 0) t key) := ⟨_, rfl⟩
      rw [← hs1] at hR
      have hWs1 : WfM B s1 := by rw [hs1]; exact (WfM.opens (WfM.oth hW (by decide)))
      have h231 : s1 23 t = 0 := by rw [hs1, opensS_g (by decide)]; exact h23s
      refine v_aload_n (pc := 29) O dX5_get_29 rfl ?_
      refine vm_get (pc := 30) O hR 29 rfl q2072 rfl dX5_get_30 ?_
      refine v_bipush (pc := 33) O (x := 32) dX5_get_33 (by decide) ?_
      refine v_iload_n (pc := 35) O dX5_get_35 rfl ?_
      refine v_imul (pc := 36) O dX5_get_36 ?_
      refine v_iload_n (pc := 37) O dX5_get_37 rfl ?_
      refine v_iadd (pc := 38) O dX5_get_38 ?_
      refine vm_iald (pc := 39) O hR 29 rfl rfl (ir_32' h_t h_key) (x := (s1 29 ((32 * t) + key))) rfl dX5_get_39 ?_
      refine v_iconst (pc := 40) O (x := -1) dX5_get_40 (by decide) ?_
      refine v_icmp_eq (pc := 41) (tgt := 56) O dX5_get_41 (by decide) (fun c_41 => ?_) (fun c_41 => ?_)
      · refine v_aload_n (pc := 56) O dX5_get_56 rfl ?_
        refine vm_get (pc := 57) O hR 27 rfl q2070 rfl dX5_get_57 ?_
        refine v_iconst (pc := 60) O (x := 4) dX5_get_60 (by decide) ?_
        refine v_iload_n (pc := 61) O dX5_get_61 rfl ?_
        refine v_imul (pc := 62) O dX5_get_62 ?_
        refine v_aload_n (pc := 63) O dX5_get_63 rfl ?_
        refine v_iload_n (pc := 64) O dX5_get_64 rfl ?_
        refine v_callVi0 (pc := 65) (nA := 1) O (mm_nodeOf (xL X) Γ ad key hWs1 hR) hR.1 rfl q2179 q2181 qs23 q71 q2182 (by decide +kernel) rfl rfl rfl rfl (Nat.le_of_ble_eq_true rfl) (Nat.le_refl _) (Nat.le_refl _) dX5_get_65 (fun x μ h => ?_)
        obtain ⟨rfl, hR⟩ := h
        refine v_iadd (pc := 68) O dX5_get_68 ?_
        refine vm_iald (pc := 69) O hR 27 rfl rfl (ir_4 h_t (hWs1.node _)) (x := (s1 27 ((4 * t) + (nodeOfF s1 key)))) rfl dX5_get_69 ?_
        obtain ⟨th, hth⟩ : ∃ z, z = (s1 27 ((4 * t) + (nodeOfF s1 key))) := ⟨_, rfl⟩
        rw [← hth]
        have h0 : getO s t key = getGo t key th (gFuel s1 t th) s1 := by simp [getO, c_6, c_23, ← hs1, c_41, ← hth]
        refine v_istore (pc := 70) (lv' := [(5, .int th), (4, .int (opensF (sset s 31 0 0) t key)), (3, .int t), (0, .ref (ad 0)), (1, .int t), (2, .int key)]) O dX5_get_70 rfl rfl ?_
        refine v_iconst (pc := 72) O (x := 1) dX5_get_72 (by decide) ?_
        refine v_istore (pc := 73) (lv' := [(6, .int 1), (5, .int th), (4, .int (opensF (sset s 31 0 0) t key)), (3, .int t), (0, .ref (ad 0)), (1, .int t), (2, .int key)]) O dX5_get_73 rfl rfl ?_
        have L75 : ∀ (d75 : Nat) (s75 : St) (μ : Mem), pend s75 + (th.toInt - (s75 19 t).toInt).toNat < d75 → getGo t key th (gFuel s1 t th) s1 = getGo t key th d75 s75 → WfM B s75 → s75 23 t = 0 → 0 ≤ s75 19 t → RepM Γ ad s75 μ → V X Γ (gA μ0 sz) 10 (QV X Γ μ0 sz (PI (fun r9 μ1 => r9 = (getO s t key).2 ∧ RepM Γ ad ((getO s t key).1) μ1)) 0 0) 0 0 μ 75 [(6, .int 1), (5, .int th), (4, .int (opensF (sset s 31 0 0) t key)), (3, .int t), (0, .ref (ad 0)), (1, .int t), (2, .int key)] [] := by
          intro d75
          induction d75 with
          | zero =>
            intro s75 μ hd75 he75 hWs75 h23 h19 hR
            exact absurd hd75 (by omega)
          | succ d75 ih75 =>
            intro s75 μ hd75 he75 hWs75 h23 h19 hR
            refine v_iload (pc := 75) O dX5_get_75 rfl ?_
            refine v_if_eq (pc := 77) (tgt := 248) O dX5_get_77 (by decide) (fun c => absurd c (by decide)) (fun _ => ?_)
            refine v_iconst (pc := 80) O (x := 0) dX5_get_80 (by decide) ?_
            refine v_istore (pc := 81) (lv' := [(6, .int 0), (5, .int th), (4, .int (opensF (sset s 31 0 0) t key)), (3, .int t), (0, .ref (ad 0)), (1, .int t), (2, .int key)]) O dX5_get_81 rfl rfl ?_
            refine v_aload_n (pc := 83) O dX5_get_83 rfl ?_
            refine v_iload_n (pc := 84) O dX5_get_84 rfl ?_
            refine v_iload_n (pc := 85) O dX5_get_85 rfl ?_
            refine v_callVi0 (pc := 86) (nA := 2) O (mm_meets (xL X) Γ ad t key hB h_key hWs75 hR) hR.1 rfl q2231 q2233 qs29 q71 q2234 (by decide +kernel) rfl rfl rfl rfl (Nat.le_of_ble_eq_true rfl) (Nat.le_refl _) (Nat.le_refl _) dX5_get_86 (fun x μ h => ?_)
            obtain ⟨rfl, hR⟩ := h
            refine v_istore (pc := 89) (lv' := [(7, .int (meetsF s75 t key)), (6, .int 0), (5, .int th), (4, .int (opensF (sset s 31 0 0) t key)), (3, .int t), (0, .ref (ad 0)), (1, .int t), (2, .int key)]) O dX5_get_89 rfl rfl ?_
            refine v_aload_n (pc := 91) O dX5_get_91 rfl ?_
            refine vm_get (pc := 92) O hR 19 rfl q2062 rfl dX5_get_92 ?_
            refine v_iload_n (pc := 95) O dX5_get_95 rfl ?_
            refine vm_iald (pc := 96) O hR 19 rfl rfl h_t (x := (s75 19 t)) ((congrFun (meetsS_g (by decide)) _).trans rfl) dX5_get_96 ?_
            refine v_iload (pc := 97) O dX5_get_97 rfl ?_
            refine v_callSi0 (pc := 99) (nA := 2) O (mm_greater (xL X) Γ (s75 19 t) th _) q2164 q2165 q71 q2166 (by decide +kernel) rfl rfl rfl rfl (Nat.le_of_ble_eq_true rfl) (Nat.le_refl _) (Nat.le_refl _) dX5_get_99 (fun x μ1 h => ?_)
            obtain ⟨rfl, rfl⟩ := h
            refine v_istore (pc := 102) (lv' := [(8, .int (gt2 (s75 19 t) th)), (7, .int (meetsF s75 t key)), (6, .int 0), (5, .int th), (4, .int (opensF (sset s 31 0 0) t key)), (3, .int t), (0, .ref (ad 0)), (1, .int t), (2, .int key)]) O dX5_get_102 rfl rfl ?_
            refine v_iload (pc := 104) O dX5_get_104 rfl ?_
            refine v_iconst (pc := 106) O (x := -1) dX5_get_106 (by decide) ?_
            refine v_icmp_eq (pc := 107) (tgt := 174) O dX5_get_107 (by decide) (fun c_107 => ?_) (fun c_107 => ?_)
            · refine v_aload_n (pc := 174) O dX5_get_174 rfl ?_
              refine v_iload_n (pc := 175) O dX5_get_175 rfl ?_
              refine v_iload (pc := 176) O dX5_get_176 rfl ?_
              refine v_callVi0 (pc := 178) (nA := 2) O (mm_latest (xL X) Γ ad key th hB (WfM.meets hB hWs75) hR) hR.1 rfl q2263 q2265 qs37 q71 q2266 (by decide +kernel) rfl rfl rfl rfl (Nat.le_of_ble_eq_true rfl) (Nat.le_refl _) (Nat.le_refl _) dX5_get_178 (fun x μ h => ?_)
              obtain ⟨rfl, hR⟩ := h
              refine v_istore (pc := 181) (lv' := [(9, .int (latestF (meetsS s75 t key) key th)), (8, .int (gt2 (s75 19 t) th)), (7, .int (meetsF s75 t key)), (6, .int 0), (5, .int th), (4, .int (opensF (sset s 31 0 0) t key)), (3, .int t), (0, .ref (ad 0)), (1, .int t), (2, .int key)]) O dX5_get_181 rfl rfl ?_
              refine v_iload (pc := 183) O dX5_get_183 rfl ?_
              refine v_if_ne (pc := 185) (tgt := 245) O dX5_get_185 (by decide) (fun c => absurd (by decide) c) (fun _ => ?_)
              refine v_iload (pc := 188) O dX5_get_188 rfl ?_
              refine v_aload_n (pc := 190) O dX5_get_190 rfl ?_
              refine vm_get (pc := 191) O hR 19 rfl q2062 rfl dX5_get_191 ?_
              refine v_iload_n (pc := 194) O dX5_get_194 rfl ?_
              refine vm_iald (pc := 195) O hR 19 rfl rfl h_t (x := (s75 19 t)) ((congrFun (meetsS_g (by decide)) _).trans rfl) dX5_get_195 ?_
              refine v_icmp_le (pc := 196) (tgt := 245) O dX5_get_196 (by decide) (fun c_196 => ?_) (fun c_196 => ?_)
              · refine v_goto (pc := 245) O (tgt := 75) dX5_get_245 (by decide) ?_
                refine v_iload (pc := 75) O dX5_get_75 rfl ?_
                refine v_if_eq (pc := 77) (tgt := 248) O dX5_get_77 (by decide) (fun _ => ?_) (fun c => absurd (by decide) c)
                refine v_aload_n (pc := 248) O dX5_get_248 rfl ?_
                refine v_iload_n (pc := 249) O dX5_get_249 rfl ?_
                refine v_aload_n (pc := 250) O dX5_get_250 rfl ?_
                refine vm_get (pc := 251) O hR 19 rfl q2062 rfl dX5_get_251 ?_
                refine v_iload_n (pc := 254) O dX5_get_254 rfl ?_
                refine vm_iald (pc := 255) O hR 19 rfl rfl h_t (x := (s75 19 t)) ((congrFun (meetsS_g (by decide)) _).trans rfl) dX5_get_255 ?_
                refine v_callVi0 (pc := 256) (nA := 2) O (mm_valueAt (xL X) Γ ad key (s75 19 t) hB (WfM.meets hB hWs75) hR) hR.1 rfl q2279 q2281 qs41 q71 q2282 (by decide +kernel) rfl rfl rfl rfl (Nat.le_of_ble_eq_true rfl) (Nat.le_refl _) (Nat.le_refl _) dX5_get_256 (fun x μ h => ?_)
                obtain ⟨rfl, hR⟩ := h
                refine v_istore (pc := 259) (lv' := [(7, .int (valueAtF (meetsS s75 t key) key (s75 19 t))), (9, .int (latestF (meetsS s75 t key) key th)), (8, .int (gt2 (s75 19 t) th)), (6, .int 0), (5, .int th), (4, .int (opensF (sset s 31 0 0) t key)), (3, .int t), (0, .ref (ad 0)), (1, .int t), (2, .int key)]) O dX5_get_259 rfl rfl ?_
                refine v_aload_n (pc := 261) O dX5_get_261 rfl ?_
                refine vm_get (pc := 262) O hR 28 rfl q2071 rfl dX5_get_262 ?_
                refine v_bipush (pc := 265) O (x := 32) dX5_get_265 (by decide) ?_
                refine v_iload_n (pc := 267) O dX5_get_267 rfl ?_
                refine v_imul (pc := 268) O dX5_get_268 ?_
                refine v_iload_n (pc := 269) O dX5_get_269 rfl ?_
                refine v_iadd (pc := 270) O dX5_get_270 ?_
                refine v_iload (pc := 271) O dX5_get_271 rfl ?_
                refine vm_iast (pc := 273) O hR 28 rfl rfl (ir_32' h_t h_key) dX5_get_273 (fun μ hR => ?_)
                refine v_aload_n (pc := 274) O dX5_get_274 rfl ?_
                refine v_iload_n (pc := 275) O dX5_get_275 rfl ?_
                refine v_iload_n (pc := 276) O dX5_get_276 rfl ?_
                refine v_aload_n (pc := 277) O dX5_get_277 rfl ?_
                refine vm_get (pc := 278) O hR 19 rfl q2062 rfl dX5_get_278 ?_
                refine v_iload_n (pc := 281) O dX5_get_281 rfl ?_
                refine vm_iald (pc := 282) O hR 19 rfl rfl h_t (x := (s75 19 t)) ((sset_f (by decide)).trans ((congrFun (meetsS_g (by decide)) _).trans rfl)) dX5_get_282 ?_
                refine v_callVv0 (pc := 283) (nA := 3) O (mm_marks (xL X) Γ ad t key (s75 19 t) h_key hR) hR.1 rfl q2271 q2273 qs39 q71 q2274 (by decide +kernel) rfl rfl rfl rfl (Nat.le_of_ble_eq_true rfl) (Nat.le_refl _) (Nat.le_refl _) dX5_get_283 (fun μ hR => ?_)
                refine v_iload (pc := 286) O dX5_get_286 rfl ?_
                have hfin : getGo t key th (gFuel s1 t th) s1 = ((marksS (sset (meetsS s75 t key) 28 ((32 * t) + key) (valueAtF (meetsS s75 t key) key (s75 19 t))) t key (s75 19 t)), (valueAtF (meetsS s75 t key) key (s75 19 t))) := he75.trans (getGo_l (by simp [getTurn, m18, m19, m20, r19, r20, lat_oth, val_oth, sset_f, sset_eq, c_107, c_196]))
                exact v_iret (pc := 288) O hr (Nat.le_refl _) (Nat.le_refl _) dX5_get_288 ⟨_, rfl, ⟨by rw [h0, hfin], by rw [h0, hfin]; exact hR⟩⟩
              · refine v_aload_n (pc := 199) O dX5_get_199 rfl ?_
                refine v_iload_n (pc := 200) O dX5_get_200 rfl ?_
                refine v_iload (pc := 201) O dX5_get_201 rfl ?_
                refine v_callVi0 (pc := 203) (nA := 2) O (mm_refreshes (xL X) Γ ad t (latestF (meetsS s75 t key) key th) hB h_t (WfM.meets hB hWs75) hR) hR.1 rfl q2267 q2269 qs38 q71 q2270 (by decide +kernel) rfl rfl rfl rfl (Nat.le_of_ble_eq_true rfl) (Nat.le_refl _) (Nat.le_refl _) dX5_get_203 (fun x μ h => ?_)
                obtain ⟨rfl, hR⟩ := h
                refine v_if_ne_b (pc := 206) (tgt := 217) O dX5_get_206 (by decide) (fun c_206 => ?_) (fun c_206 => ?_)
                · refine v_aload_n (pc := 217) O dX5_get_217 rfl ?_
                  refine vm_get (pc := 218) O hR 19 rfl q2062 rfl dX5_get_218 ?_
                  refine v_iload_n (pc := 221) O dX5_get_221 rfl ?_
                  refine v_iload (pc := 222) O dX5_get_222 rfl ?_
                  refine vm_iast (pc := 224) O hR 19 rfl rfl h_t dX5_get_224 (fun μ hR => ?_)
                  refine v_aload_n (pc := 225) O dX5_get_225 rfl ?_
                  refine vm_get (pc := 226) O hR 20 rfl q2063 rfl dX5_get_226 ?_
                  refine v_iload_n (pc := 229) O dX5_get_229 rfl ?_
                  refine v_aload_n (pc := 230) O dX5_get_230 rfl ?_
                  refine vm_get (pc := 231) O hR 20 rfl q2063 rfl dX5_get_231 ?_
                  refine v_iload_n (pc := 234) O dX5_get_234 rfl ?_
                  refine vm_iald (pc := 235) O hR 20 rfl rfl h_t (x := (s75 20 t)) ((sset_f (by decide)).trans ((congrFun (refS_g (by decide)) _).trans ((congrFun (meetsS_g (by decide)) _).trans rfl))) dX5_get_235 ?_
                  refine v_iload (pc := 236) O dX5_get_236 rfl ?_
                  refine v_callSi0 (pc := 238) (nA := 2) O (mm_greater (xL X) Γ (s75 20 t) (latestF (meetsS s75 t key) key th) _) q2164 q2165 q71 q2166 (by decide +kernel) rfl rfl rfl rfl (Nat.le_of_ble_eq_true rfl) (Nat.le_refl _) (Nat.le_refl _) dX5_get_238 (fun x μ1 h => ?_)
                  obtain ⟨rfl, rfl⟩ := h
                  refine vm_iast (pc := 241) O hR 20 rfl rfl h_t dX5_get_241 (fun μ hR => ?_)
                  refine v_iconst (pc := 242) O (x := 1) dX5_get_242 (by decide) ?_
                  refine v_istore (pc := 243) (lv' := [(6, .int 1), (9, .int (latestF (meetsS s75 t key) key th)), (8, .int (gt2 (s75 19 t) th)), (7, .int (meetsF s75 t key)), (5, .int th), (4, .int (opensF (sset s 31 0 0) t key)), (3, .int t), (0, .ref (ad 0)), (1, .int t), (2, .int key)]) O dX5_get_243 rfl rfl ?_
                  refine v_goto (pc := 245) O (tgt := 75) dX5_get_245 (by decide) ?_
                  exact v_locs [0, 4, 5, 6, 7, 8, 9] rfl (ih75 (sset (sset (refS (meetsS s75 t key) t (latestF (meetsS s75 t key) key th)) 19 t (latestF (meetsS s75 t key) key th)) 20 t (gt2 (s75 20 t) (latestF (meetsS s75 t key) key th)))  μ (Nat.lt_of_lt_of_le (gt_b2 (s := s75) (σ2 := (meetsS s75 t key)) (t := t) (key := key) (th := th) (nw := (latestF (meetsS s75 t key) key th)) (x := (gt2 (s75 20 t) (latestF (meetsS s75 t key) key th))) (fun i hi => meets23 i hi) rfl h19 c_196) (Nat.le_of_lt_succ hd75)) (he75.trans (getGo_r (by simp [getTurn, m18, m19, m20, r19, r20, lat_oth, val_oth, sset_f, sset_eq, c_107, c_196, c_206]))) (WfM.oth (WfM.oth (WfM.refs hB (WfM.meets hB hWs75)) (by decide)) (by decide)) (by rw [sset_f (by decide), sset_f (by decide), ref23_t, meets23_t]; exact h23) (by rw [sset_f (by decide), sset_eq]; exact gt_19 h19 c_196) hR)
                · refine v_aload_n (pc := 209) O dX5_get_209 rfl ?_
                  refine v_iload_n (pc := 210) O dX5_get_210 rfl ?_
                  refine v_iload (pc := 211) O dX5_get_211 rfl ?_
                  refine v_callVi0 (pc := 213) (nA := 2) O (mm_restarts (xL X) Γ ad t (latestF (meetsS s75 t key) key th) h_t hR) hR.1 rfl q2275 q2277 qs40 q71 q2278 (by decide +kernel) rfl rfl rfl rfl (Nat.le_of_ble_eq_true rfl) (Nat.le_refl _) (Nat.le_refl _) dX5_get_213 (fun x μ h => ?_)
                  obtain ⟨rfl, hR⟩ := h
                  have hfin : getGo t key th (gFuel s1 t th) s1 = ((restartsS (refS (meetsS s75 t key) t (latestF (meetsS s75 t key) key th)) t (latestF (meetsS s75 t key) key th)), (-12)) := he75.trans (getGo_l (by simp [getTurn, m18, m19, m20, r19, r20, lat_oth, val_oth, sset_f, sset_eq, c_107, c_196, c_206]))
                  exact v_iret (pc := 216) O hr (Nat.le_refl _) (Nat.le_refl _) dX5_get_216 ⟨_, rfl, ⟨by rw [h0, hfin], by rw [h0, hfin]; exact hR⟩⟩
            · refine v_aload_n (pc := 110) O dX5_get_110 rfl ?_
              refine vm_get (pc := 111) O hR 20 rfl q2063 rfl dX5_get_111 ?_
              refine v_iload (pc := 114) O dX5_get_114 rfl ?_
              refine vm_iald (pc := 116) O hR 20 rfl rfl (hWs75.mF c_107) (x := (s75 20 (meetsF s75 t key))) ((congrFun (meetsS_g (by decide)) _).trans rfl) dX5_get_116 ?_
              refine v_iload (pc := 117) O dX5_get_117 rfl ?_
              refine v_icmp_gt (pc := 119) (tgt := 174) O dX5_get_119 (by decide) (fun c_119 => ?_) (fun c_119 => ?_)
              · refine v_aload_n (pc := 174) O dX5_get_174 rfl ?_
                refine v_iload_n (pc := 175) O dX5_get_175 rfl ?_
                refine v_iload (pc := 176) O dX5_get_176 rfl ?_
                refine v_callVi0 (pc := 178) (nA := 2) O (mm_latest (xL X) Γ ad key th hB (WfM.meets hB hWs75) hR) hR.1 rfl q2263 q2265 qs37 q71 q2266 (by decide +kernel) rfl rfl rfl rfl (Nat.le_of_ble_eq_true rfl) (Nat.le_refl _) (Nat.le_refl _) dX5_get_178 (fun x μ h => ?_)
                obtain ⟨rfl, hR⟩ := h
                refine v_istore (pc := 181) (lv' := [(9, .int (latestF (meetsS s75 t key) key th)), (8, .int (gt2 (s75 19 t) th)), (7, .int (meetsF s75 t key)), (6, .int 0), (5, .int th), (4, .int (opensF (sset s 31 0 0) t key)), (3, .int t), (0, .ref (ad 0)), (1, .int t), (2, .int key)]) O dX5_get_181 rfl rfl ?_
                refine v_iload (pc := 183) O dX5_get_183 rfl ?_
                refine v_if_ne (pc := 185) (tgt := 245) O dX5_get_185 (by decide) (fun c => absurd (by decide) c) (fun _ => ?_)
                refine v_iload (pc := 188) O dX5_get_188 rfl ?_
                refine v_aload_n (pc := 190) O dX5_get_190 rfl ?_
                refine vm_get (pc := 191) O hR 19 rfl q2062 rfl dX5_get_191 ?_
                refine v_iload_n (pc := 194) O dX5_get_194 rfl ?_
                refine vm_iald (pc := 195) O hR 19 rfl rfl h_t (x := (s75 19 t)) ((congrFun (meetsS_g (by decide)) _).trans rfl) dX5_get_195 ?_
                refine v_icmp_le (pc := 196) (tgt := 245) O dX5_get_196 (by decide) (fun c_196 => ?_) (fun c_196 => ?_)
                · refine v_goto (pc := 245) O (tgt := 75) dX5_get_245 (by decide) ?_
                  refine v_iload (pc := 75) O dX5_get_75 rfl ?_
                  refine v_if_eq (pc := 77) (tgt := 248) O dX5_get_77 (by decide) (fun _ => ?_) (fun c => absurd (by decide) c)
                  refine v_aload_n (pc := 248) O dX5_get_248 rfl ?_
                  refine v_iload_n (pc := 249) O dX5_get_249 rfl ?_
                  refine v_aload_n (pc := 250) O dX5_get_250 rfl ?_
                  refine vm_get (pc := 251) O hR 19 rfl q2062 rfl dX5_get_251 ?_
                  refine v_iload_n (pc := 254) O dX5_get_254 rfl ?_
                  refine vm_iald (pc := 255) O hR 19 rfl rfl h_t (x := (s75 19 t)) ((congrFun (meetsS_g (by decide)) _).trans rfl) dX5_get_255 ?_
                  refine v_callVi0 (pc := 256) (nA := 2) O (mm_valueAt (xL X) Γ ad key (s75 19 t) hB (WfM.meets hB hWs75) hR) hR.1 rfl q2279 q2281 qs41 q71 q2282 (by decide +kernel) rfl rfl rfl rfl (Nat.le_of_ble_eq_true rfl) (Nat.le_refl _) (Nat.le_refl _) dX5_get_256 (fun x μ h => ?_)
                  obtain ⟨rfl, hR⟩ := h
                  refine v_istore (pc := 259) (lv' := [(7, .int (valueAtF (meetsS s75 t key) key (s75 19 t))), (9, .int (latestF (meetsS s75 t key) key th)), (8, .int (gt2 (s75 19 t) th)), (6, .int 0), (5, .int th), (4, .int (opensF (sset s 31 0 0) t key)), (3, .int t), (0, .ref (ad 0)), (1, .int t), (2, .int key)]) O dX5_get_259 rfl rfl ?_
                  refine v_aload_n (pc := 261) O dX5_get_261 rfl ?_
                  refine vm_get (pc := 262) O hR 28 rfl q2071 rfl dX5_get_262 ?_
                  refine v_bipush (pc := 265) O (x := 32) dX5_get_265 (by decide) ?_
                  refine v_iload_n (pc := 267) O dX5_get_267 rfl ?_
                  refine v_imul (pc := 268) O dX5_get_268 ?_
                  refine v_iload_n (pc := 269) O dX5_get_269 rfl ?_
                  refine v_iadd (pc := 270) O dX5_get_270 ?_
                  refine v_iload (pc := 271) O dX5_get_271 rfl ?_
                  refine vm_iast (pc := 273) O hR 28 rfl rfl (ir_32' h_t h_key) dX5_get_273 (fun μ hR => ?_)
                  refine v_aload_n (pc := 274) O dX5_get_274 rfl ?_
                  refine v_iload_n (pc := 275) O dX5_get_275 rfl ?_
                  refine v_iload_n (pc := 276) O dX5_get_276 rfl ?_
                  refine v_aload_n (pc := 277) O dX5_get_277 rfl ?_
                  refine vm_get (pc := 278) O hR 19 rfl q2062 rfl dX5_get_278 ?_
                  refine v_iload_n (pc := 281) O dX5_get_281 rfl ?_
                  refine vm_iald (pc := 282) O hR 19 rfl rfl h_t (x := (s75 19 t)) ((sset_f (by decide)).trans ((congrFun (meetsS_g (by decide)) _).trans rfl)) dX5_get_282 ?_
                  refine v_callVv0 (pc := 283) (nA := 3) O (mm_marks (xL X) Γ ad t key (s75 19 t) h_key hR) hR.1 rfl q2271 q2273 qs39 q71 q2274 (by decide +kernel) rfl rfl rfl rfl (Nat.le_of_ble_eq_true rfl) (Nat.le_refl _) (Nat.le_refl _) dX5_get_283 (fun μ hR => ?_)
                  refine v_iload (pc := 286) O dX5_get_286 rfl ?_
                  have hfin : getGo t key th (gFuel s1 t th) s1 = ((marksS (sset (meetsS s75 t key) 28 ((32 * t) + key) (valueAtF (meetsS s75 t key) key (s75 19 t))) t key (s75 19 t)), (valueAtF (meetsS s75 t key) key (s75 19 t))) := he75.trans (getGo_l (by simp [getTurn, m18, m19, m20, r19, r20, lat_oth, val_oth, sset_f, sset_eq, c_107, c_119, c_196]))
                  exact v_iret (pc := 288) O hr (Nat.le_refl _) (Nat.le_refl _) dX5_get_288 ⟨_, rfl, ⟨by rw [h0, hfin], by rw [h0, hfin]; exact hR⟩⟩
                · refine v_aload_n (pc := 199) O dX5_get_199 rfl ?_
                  refine v_iload_n (pc := 200) O dX5_get_200 rfl ?_
                  refine v_iload (pc := 201) O dX5_get_201 rfl ?_
                  refine v_callVi0 (pc := 203) (nA := 2) O (mm_refreshes (xL X) Γ ad t (latestF (meetsS s75 t key) key th) hB h_t (WfM.meets hB hWs75) hR) hR.1 rfl q2267 q2269 qs38 q71 q2270 (by decide +kernel) rfl rfl rfl rfl (Nat.le_of_ble_eq_true rfl) (Nat.le_refl _) (Nat.le_refl _) dX5_get_203 (fun x μ h => ?_)
                  obtain ⟨rfl, hR⟩ := h
                  refine v_if_ne_b (pc := 206) (tgt := 217) O dX5_get_206 (by decide) (fun c_206 => ?_) (fun c_206 => ?_)
                  · refine v_aload_n (pc := 217) O dX5_get_217 rfl ?_
                    refine vm_get (pc := 218) O hR 19 rfl q2062 rfl dX5_get_218 ?_
                    refine v_iload_n (pc := 221) O dX5_get_221 rfl ?_
                    refine v_iload (pc := 222) O dX5_get_222 rfl ?_
                    refine vm_iast (pc := 224) O hR 19 rfl rfl h_t dX5_get_224 (fun μ hR => ?_)
                    refine v_aload_n (pc := 225) O dX5_get_225 rfl ?_
                    refine vm_get (pc := 226) O hR 20 rfl q2063 rfl dX5_get_226 ?_
                    refine v_iload_n (pc := 229) O dX5_get_229 rfl ?_
                    refine v_aload_n (pc := 230) O dX5_get_230 rfl ?_
                    refine vm_get (pc := 231) O hR 20 rfl q2063 rfl dX5_get_231 ?_
                    refine v_iload_n (pc := 234) O dX5_get_234 rfl ?_
                    refine vm_iald (pc := 235) O hR 20 rfl rfl h_t (x := (s75 20 t)) ((sset_f (by decide)).trans ((congrFun (refS_g (by decide)) _).trans ((congrFun (meetsS_g (by decide)) _).trans rfl))) dX5_get_235 ?_
                    refine v_iload (pc := 236) O dX5_get_236 rfl ?_
                    refine v_callSi0 (pc := 238) (nA := 2) O (mm_greater (xL X) Γ (s75 20 t) (latestF (meetsS s75 t key) key th) _) q2164 q2165 q71 q2166 (by decide +kernel) rfl rfl rfl rfl (Nat.le_of_ble_eq_true rfl) (Nat.le_refl _) (Nat.le_refl _) dX5_get_238 (fun x μ1 h => ?_)
                    obtain ⟨rfl, rfl⟩ := h
                    refine vm_iast (pc := 241) O hR 20 rfl rfl h_t dX5_get_241 (fun μ hR => ?_)
                    refine v_iconst (pc := 242) O (x := 1) dX5_get_242 (by decide) ?_
                    refine v_istore (pc := 243) (lv' := [(6, .int 1), (9, .int (latestF (meetsS s75 t key) key th)), (8, .int (gt2 (s75 19 t) th)), (7, .int (meetsF s75 t key)), (5, .int th), (4, .int (opensF (sset s 31 0 0) t key)), (3, .int t), (0, .ref (ad 0)), (1, .int t), (2, .int key)]) O dX5_get_243 rfl rfl ?_
                    refine v_goto (pc := 245) O (tgt := 75) dX5_get_245 (by decide) ?_
                    exact v_locs [0, 4, 5, 6, 7, 8, 9] rfl (ih75 (sset (sset (refS (meetsS s75 t key) t (latestF (meetsS s75 t key) key th)) 19 t (latestF (meetsS s75 t key) key th)) 20 t (gt2 (s75 20 t) (latestF (meetsS s75 t key) key th)))  μ (Nat.lt_of_lt_of_le (gt_b2 (s := s75) (σ2 := (meetsS s75 t key)) (t := t) (key := key) (th := th) (nw := (latestF (meetsS s75 t key) key th)) (x := (gt2 (s75 20 t) (latestF (meetsS s75 t key) key th))) (fun i hi => meets23 i hi) rfl h19 c_196) (Nat.le_of_lt_succ hd75)) (he75.trans (getGo_r (by simp [getTurn, m18, m19, m20, r19, r20, lat_oth, val_oth, sset_f, sset_eq, c_107, c_119, c_196, c_206]))) (WfM.oth (WfM.oth (WfM.refs hB (WfM.meets hB hWs75)) (by decide)) (by decide)) (by rw [sset_f (by decide), sset_f (by decide), ref23_t, meets23_t]; exact h23) (by rw [sset_f (by decide), sset_eq]; exact gt_19 h19 c_196) hR)
                  · refine v_aload_n (pc := 209) O dX5_get_209 rfl ?_
                    refine v_iload_n (pc := 210) O dX5_get_210 rfl ?_
                    refine v_iload (pc := 211) O dX5_get_211 rfl ?_
                    refine v_callVi0 (pc := 213) (nA := 2) O (mm_restarts (xL X) Γ ad t (latestF (meetsS s75 t key) key th) h_t hR) hR.1 rfl q2275 q2277 qs40 q71 q2278 (by decide +kernel) rfl rfl rfl rfl (Nat.le_of_ble_eq_true rfl) (Nat.le_refl _) (Nat.le_refl _) dX5_get_213 (fun x μ h => ?_)
                    obtain ⟨rfl, hR⟩ := h
                    have hfin : getGo t key th (gFuel s1 t th) s1 = ((restartsS (refS (meetsS s75 t key) t (latestF (meetsS s75 t key) key th)) t (latestF (meetsS s75 t key) key th)), (-12)) := he75.trans (getGo_l (by simp [getTurn, m18, m19, m20, r19, r20, lat_oth, val_oth, sset_f, sset_eq, c_107, c_119, c_196, c_206]))
                    exact v_iret (pc := 216) O hr (Nat.le_refl _) (Nat.le_refl _) dX5_get_216 ⟨_, rfl, ⟨by rw [h0, hfin], by rw [h0, hfin]; exact hR⟩⟩
              · refine v_aload_n (pc := 122) O dX5_get_122 rfl ?_
                refine vm_get (pc := 123) O hR 18 rfl q2061 rfl dX5_get_123 ?_
                refine v_iload_n (pc := 126) O dX5_get_126 rfl ?_
                refine vm_iald (pc := 127) O hR 18 rfl rfl h_t (x := (s75 18 t)) ((congrFun (meetsS_g (by decide)) _).trans rfl) dX5_get_127 ?_
                refine v_aload_n (pc := 128) O dX5_get_128 rfl ?_
                refine vm_get (pc := 129) O hR 18 rfl q2061 rfl dX5_get_129 ?_
                refine v_iload (pc := 132) O dX5_get_132 rfl ?_
                refine vm_iald (pc := 134) O hR 18 rfl rfl (hWs75.mF c_107) (x := (s75 18 (meetsF s75 t key))) ((congrFun (meetsS_g (by decide)) _).trans rfl) dX5_get_134 ?_
                refine v_icmp_le (pc := 135) (tgt := 152) O dX5_get_135 (by decide) (fun c_135 => ?_) (fun c_135 => ?_)
                · refine v_aload_n (pc := 152) O dX5_get_152 rfl ?_
                  refine v_iload_n (pc := 153) O dX5_get_153 rfl ?_
                  refine v_iload (pc := 154) O dX5_get_154 rfl ?_
                  refine v_callVi0 (pc := 156) (nA := 2) O (mm_comesAnew (xL X) Γ ad t (meetsF s75 t key) h_t (hWs75.mF c_107) (WfM.meets hB hWs75) hR) hR.1 rfl q2251 q2253 qs34 q71 q2254 (by decide +kernel) rfl rfl rfl rfl (Nat.le_of_ble_eq_true rfl) (Nat.le_refl _) (Nat.le_refl _) dX5_get_156 (fun x μ h => ?_)
                  obtain ⟨rfl, hR⟩ := h
                  refine v_if_eq_b (pc := 159) (tgt := 168) O dX5_get_159 (by decide) (fun c_159 => ?_) (fun c_159 => ?_)
                  · refine v_aload_n (pc := 168) O dX5_get_168 rfl ?_
                    refine v_iload_n (pc := 169) O dX5_get_169 rfl ?_
                    refine v_callVi0 (pc := 170) (nA := 1) O (mm_waitAnswer (xL X) Γ ad t h_t hR) hR.1 rfl q2259 q2261 qs36 q71 q2262 (by decide +kernel) rfl rfl rfl rfl (Nat.le_of_ble_eq_true rfl) (Nat.le_refl _) (Nat.le_refl _) dX5_get_170 (fun x μ h => ?_)
                    obtain ⟨rfl, hR⟩ := h
                    have hfin : getGo t key th (gFuel s1 t th) s1 = ((anewS (meetsS s75 t key) t (meetsF s75 t key)), (waitAnsF (anewS (meetsS s75 t key) t (meetsF s75 t key)) t)) := he75.trans (getGo_l (by simp [getTurn, m18, m19, m20, r19, r20, lat_oth, val_oth, sset_f, sset_eq, c_107, c_119, c_135, c_159]))
                    exact v_iret (pc := 173) O hr (Nat.le_refl _) (Nat.le_refl _) dX5_get_173 ⟨_, rfl, ⟨by rw [h0, hfin], by rw [h0, hfin]; exact hR⟩⟩
                  · refine v_iconst (pc := 162) O (x := 1) dX5_get_162 (by decide) ?_
                    refine v_istore (pc := 163) (lv' := [(6, .int 1), (8, .int (gt2 (s75 19 t) th)), (7, .int (meetsF s75 t key)), (5, .int th), (4, .int (opensF (sset s 31 0 0) t key)), (3, .int t), (0, .ref (ad 0)), (1, .int t), (2, .int key)]) O dX5_get_163 rfl rfl ?_
                    refine v_goto (pc := 165) O (tgt := 174) dX5_get_165 (by decide) ?_
                    refine v_aload_n (pc := 174) O dX5_get_174 rfl ?_
                    refine v_iload_n (pc := 175) O dX5_get_175 rfl ?_
                    refine v_iload (pc := 176) O dX5_get_176 rfl ?_
                    refine v_callVi0 (pc := 178) (nA := 2) O (mm_latest (xL X) Γ ad key th hB (WfM.anew (hWs75.mF c_107) (WfM.meets hB hWs75)) hR) hR.1 rfl q2263 q2265 qs37 q71 q2266 (by decide +kernel) rfl rfl rfl rfl (Nat.le_of_ble_eq_true rfl) (Nat.le_refl _) (Nat.le_refl _) dX5_get_178 (fun x μ h => ?_)
                    obtain ⟨rfl, hR⟩ := h
                    refine v_istore (pc := 181) (lv' := [(9, .int (latestF (anewS (meetsS s75 t key) t (meetsF s75 t key)) key th)), (6, .int 1), (8, .int (gt2 (s75 19 t) th)), (7, .int (meetsF s75 t key)), (5, .int th), (4, .int (opensF (sset s 31 0 0) t key)), (3, .int t), (0, .ref (ad 0)), (1, .int t), (2, .int key)]) O dX5_get_181 rfl rfl ?_
                    refine v_iload (pc := 183) O dX5_get_183 rfl ?_
                    refine v_if_ne (pc := 185) (tgt := 245) O dX5_get_185 (by decide) (fun _ => ?_) (fun c => absurd c (by decide))
                    refine v_goto (pc := 245) O (tgt := 75) dX5_get_245 (by decide) ?_
                    exact v_locs [1, 4, 5, 6, 7, 8, 9] rfl (ih75 (anewS (meetsS s75 t key) t (meetsF s75 t key))  μ (by have h9 := gt_b1 (th := th) hB hWs75 h_t h23 c_107 c_159; omega) (he75.trans (getGo_r (by simp [getTurn, m18, m19, m20, r19, r20, lat_oth, val_oth, sset_f, sset_eq, c_107, c_119, c_135, c_159]))) (WfM.anew (hWs75.mF c_107) (WfM.meets hB hWs75)) ((anew_t c_159).trans (meets23_t.trans h23)) (by rw [anewS_g (by decide), m19]; exact h19) hR)
                · refine v_aload_n (pc := 138) O dX5_get_138 rfl ?_
                  refine vm_get (pc := 139) O hR 20 rfl q2063 rfl dX5_get_139 ?_
                  refine v_iload (pc := 142) O dX5_get_142 rfl ?_
                  refine v_iload (pc := 144) O dX5_get_144 rfl ?_
                  refine v_iconst (pc := 146) O (x := 1) dX5_get_146 (by decide) ?_
                  refine v_iadd (pc := 147) O dX5_get_147 ?_
                  refine vm_iast (pc := 148) O hR 20 rfl rfl (hWs75.mF c_107) dX5_get_148 (fun μ hR => ?_)
                  refine v_goto (pc := 149) O (tgt := 174) dX5_get_149 (by decide) ?_
                  refine v_aload_n (pc := 174) O dX5_get_174 rfl ?_
                  refine v_iload_n (pc := 175) O dX5_get_175 rfl ?_
                  refine v_iload (pc := 176) O dX5_get_176 rfl ?_
                  refine v_callVi0 (pc := 178) (nA := 2) O (mm_latest (xL X) Γ ad key th hB (WfM.oth (WfM.meets hB hWs75) (by decide)) hR) hR.1 rfl q2263 q2265 qs37 q71 q2266 (by decide +kernel) rfl rfl rfl rfl (Nat.le_of_ble_eq_true rfl) (Nat.le_refl _) (Nat.le_refl _) dX5_get_178 (fun x μ h => ?_)
                  obtain ⟨hx, hR⟩ := h
                  rw [lat_oth (by decide) (by decide) (by decide)] at hx
                  subst hx
                  refine v_istore (pc := 181) (lv' := [(9, .int (latestF (meetsS s75 t key) key th)), (8, .int (gt2 (s75 19 t) th)), (7, .int (meetsF s75 t key)), (6, .int 0), (5, .int th), (4, .int (opensF (sset s 31 0 0) t key)), (3, .int t), (0, .ref (ad 0)), (1, .int t), (2, .int key)]) O dX5_get_181 rfl rfl ?_
                  refine v_iload (pc := 183) O dX5_get_183 rfl ?_
                  refine v_if_ne (pc := 185) (tgt := 245) O dX5_get_185 (by decide) (fun c => absurd (by decide) c) (fun _ => ?_)
                  refine v_iload (pc := 188) O dX5_get_188 rfl ?_
                  refine v_aload_n (pc := 190) O dX5_get_190 rfl ?_
                  refine vm_get (pc := 191) O hR 19 rfl q2062 rfl dX5_get_191 ?_
                  refine v_iload_n (pc := 194) O dX5_get_194 rfl ?_
                  refine vm_iald (pc := 195) O hR 19 rfl rfl h_t (x := (s75 19 t)) ((sset_f (by decide)).trans ((congrFun (meetsS_g (by decide)) _).trans rfl)) dX5_get_195 ?_
                  refine v_icmp_le (pc := 196) (tgt := 245) O dX5_get_196 (by decide) (fun c_196 => ?_) (fun c_196 => ?_)
                  · refine v_goto (pc := 245) O (tgt := 75) dX5_get_245 (by decide) ?_
                    refine v_iload (pc := 75) O dX5_get_75 rfl ?_
                    refine v_if_eq (pc := 77) (tgt := 248) O dX5_get_77 (by decide) (fun _ => ?_) (fun c => absurd (by decide) c)
                    refine v_aload_n (pc := 248) O dX5_get_248 rfl ?_
                    refine v_iload_n (pc := 249) O dX5_get_249 rfl ?_
                    refine v_aload_n (pc := 250) O dX5_get_250 rfl ?_
                    refine vm_get (pc := 251) O hR 19 rfl q2062 rfl dX5_get_251 ?_
                    refine v_iload_n (pc := 254) O dX5_get_254 rfl ?_
                    refine vm_iald (pc := 255) O hR 19 rfl rfl h_t (x := (s75 19 t)) ((sset_f (by decide)).trans ((congrFun (meetsS_g (by decide)) _).trans rfl)) dX5_get_255 ?_
                    refine v_callVi0 (pc := 256) (nA := 2) O (mm_valueAt (xL X) Γ ad key (s75 19 t) hB (WfM.oth (WfM.meets hB hWs75) (by decide)) hR) hR.1 rfl q2279 q2281 qs41 q71 q2282 (by decide +kernel) rfl rfl rfl rfl (Nat.le_of_ble_eq_true rfl) (Nat.le_refl _) (Nat.le_refl _) dX5_get_256 (fun x μ h => ?_)
                    obtain ⟨hx, hR⟩ := h
                    rw [val_oth (by decide) (by decide) (by decide) (by decide)] at hx
                    subst hx
                    refine v_istore (pc := 259) (lv' := [(7, .int (valueAtF (meetsS s75 t key) key (s75 19 t))), (9, .int (latestF (meetsS s75 t key) key th)), (8, .int (gt2 (s75 19 t) th)), (6, .int 0), (5, .int th), (4, .int (opensF (sset s 31 0 0) t key)), (3, .int t), (0, .ref (ad 0)), (1, .int t), (2, .int key)]) O dX5_get_259 rfl rfl ?_
                    refine v_aload_n (pc := 261) O dX5_get_261 rfl ?_
                    refine vm_get (pc := 262) O hR 28 rfl q2071 rfl dX5_get_262 ?_
                    refine v_bipush (pc := 265) O (x := 32) dX5_get_265 (by decide) ?_
                    refine v_iload_n (pc := 267) O dX5_get_267 rfl ?_
                    refine v_imul (pc := 268) O dX5_get_268 ?_
                    refine v_iload_n (pc := 269) O dX5_get_269 rfl ?_
                    refine v_iadd (pc := 270) O dX5_get_270 ?_
                    refine v_iload (pc := 271) O dX5_get_271 rfl ?_
                    refine vm_iast (pc := 273) O hR 28 rfl rfl (ir_32' h_t h_key) dX5_get_273 (fun μ hR => ?_)
                    refine v_aload_n (pc := 274) O dX5_get_274 rfl ?_
                    refine v_iload_n (pc := 275) O dX5_get_275 rfl ?_
                    refine v_iload_n (pc := 276) O dX5_get_276 rfl ?_
                    refine v_aload_n (pc := 277) O dX5_get_277 rfl ?_
                    refine vm_get (pc := 278) O hR 19 rfl q2062 rfl dX5_get_278 ?_
                    refine v_iload_n (pc := 281) O dX5_get_281 rfl ?_
                    refine vm_iald (pc := 282) O hR 19 rfl rfl h_t (x := (s75 19 t)) ((sset_f (by decide)).trans ((sset_f (by decide)).trans ((congrFun (meetsS_g (by decide)) _).trans rfl))) dX5_get_282 ?_
                    refine v_callVv0 (pc := 283) (nA := 3) O (mm_marks (xL X) Γ ad t key (s75 19 t) h_key hR) hR.1 rfl q2271 q2273 qs39 q71 q2274 (by decide +kernel) rfl rfl rfl rfl (Nat.le_of_ble_eq_true rfl) (Nat.le_refl _) (Nat.le_refl _) dX5_get_283 (fun μ hR => ?_)
                    refine v_iload (pc := 286) O dX5_get_286 rfl ?_
                    have hfin : getGo t key th (gFuel s1 t th) s1 = ((marksS (sset (sset (meetsS s75 t key) 20 (meetsF s75 t key) ((gt2 (s75 19 t) th) + 1)) 28 ((32 * t) + key) (valueAtF (meetsS s75 t key) key (s75 19 t))) t key (s75 19 t)), (valueAtF (meetsS s75 t key) key (s75 19 t))) := he75.trans (getGo_l (by simp [getTurn, m18, m19, m20, r19, r20, lat_oth, val_oth, sset_f, sset_eq, c_107, c_119, c_135, c_196]))
                    exact v_iret (pc := 288) O hr (Nat.le_refl _) (Nat.le_refl _) dX5_get_288 ⟨_, rfl, ⟨by rw [h0, hfin], by rw [h0, hfin]; exact hR⟩⟩
                  · refine v_aload_n (pc := 199) O dX5_get_199 rfl ?_
                    refine v_iload_n (pc := 200) O dX5_get_200 rfl ?_
                    refine v_iload (pc := 201) O dX5_get_201 rfl ?_
                    refine v_callVi0 (pc := 203) (nA := 2) O (mm_refreshes (xL X) Γ ad t (latestF (meetsS s75 t key) key th) hB h_t (WfM.oth (WfM.meets hB hWs75) (by decide)) hR) hR.1 rfl q2267 q2269 qs38 q71 q2270 (by decide +kernel) rfl rfl rfl rfl (Nat.le_of_ble_eq_true rfl) (Nat.le_refl _) (Nat.le_refl _) dX5_get_203 (fun x μ h => ?_)
                    obtain ⟨rfl, hR⟩ := h
                    refine v_if_ne_b (pc := 206) (tgt := 217) O dX5_get_206 (by decide) (fun c_206 => ?_) (fun c_206 => ?_)
                    · refine v_aload_n (pc := 217) O dX5_get_217 rfl ?_
                      refine vm_get (pc := 218) O hR 19 rfl q2062 rfl dX5_get_218 ?_
                      refine v_iload_n (pc := 221) O dX5_get_221 rfl ?_
                      refine v_iload (pc := 222) O dX5_get_222 rfl ?_
                      refine vm_iast (pc := 224) O hR 19 rfl rfl h_t dX5_get_224 (fun μ hR => ?_)
                      refine v_aload_n (pc := 225) O dX5_get_225 rfl ?_
                      refine vm_get (pc := 226) O hR 20 rfl q2063 rfl dX5_get_226 ?_
                      refine v_iload_n (pc := 229) O dX5_get_229 rfl ?_
                      refine v_aload_n (pc := 230) O dX5_get_230 rfl ?_
                      refine vm_get (pc := 231) O hR 20 rfl q2063 rfl dX5_get_231 ?_
                      refine v_iload_n (pc := 234) O dX5_get_234 rfl ?_
                      refine vm_iald (pc := 235) O hR 20 rfl rfl h_t (x := ((sset (meetsS s75 t key) 20 (meetsF s75 t key) ((gt2 (s75 19 t) th) + 1)) 20 t)) ((sset_f (by decide)).trans ((congrFun (refS_g (by decide)) _).trans rfl)) dX5_get_235 ?_
                      refine v_iload (pc := 236) O dX5_get_236 rfl ?_
                      refine v_callSi0 (pc := 238) (nA := 2) O (mm_greater (xL X) Γ ((sset (meetsS s75 t key) 20 (meetsF s75 t key) ((gt2 (s75 19 t) th) + 1)) 20 t) (latestF (meetsS s75 t key) key th) _) q2164 q2165 q71 q2166 (by decide +kernel) rfl rfl rfl rfl (Nat.le_of_ble_eq_true rfl) (Nat.le_refl _) (Nat.le_refl _) dX5_get_238 (fun x μ1 h => ?_)
                      obtain ⟨rfl, rfl⟩ := h
                      refine vm_iast (pc := 241) O hR 20 rfl rfl h_t dX5_get_241 (fun μ hR => ?_)
                      refine v_iconst (pc := 242) O (x := 1) dX5_get_242 (by decide) ?_
                      refine v_istore (pc := 243) (lv' := [(6, .int 1), (9, .int (latestF (meetsS s75 t key) key th)), (8, .int (gt2 (s75 19 t) th)), (7, .int (meetsF s75 t key)), (5, .int th), (4, .int (opensF (sset s 31 0 0) t key)), (3, .int t), (0, .ref (ad 0)), (1, .int t), (2, .int key)]) O dX5_get_243 rfl rfl ?_
                      refine v_goto (pc := 245) O (tgt := 75) dX5_get_245 (by decide) ?_
                      exact v_locs [0, 4, 5, 6, 7, 8, 9] rfl (ih75 (sset (sset (refS (sset (meetsS s75 t key) 20 (meetsF s75 t key) ((gt2 (s75 19 t) th) + 1)) t (latestF (meetsS s75 t key) key th)) 19 t (latestF (meetsS s75 t key) key th)) 20 t (gt2 ((sset (meetsS s75 t key) 20 (meetsF s75 t key) ((gt2 (s75 19 t) th) + 1)) 20 t) (latestF (meetsS s75 t key) key th)))  μ (Nat.lt_of_lt_of_le (gt_b2 (s := s75) (σ2 := (sset (meetsS s75 t key) 20 (meetsF s75 t key) ((gt2 (s75 19 t) th) + 1))) (t := t) (key := key) (th := th) (nw := (latestF (meetsS s75 t key) key th)) (x := (gt2 ((sset (meetsS s75 t key) 20 (meetsF s75 t key) ((gt2 (s75 19 t) th) + 1)) 20 t) (latestF (meetsS s75 t key) key th))) (fun i hi => meets23 i (by rw [sset_f (by decide)] at hi; exact hi)) lat_eq h19 c_196) (Nat.le_of_lt_succ hd75)) (he75.trans (getGo_r (by simp [getTurn, m18, m19, m20, r19, r20, lat_oth, val_oth, sset_f, sset_eq, c_107, c_119, c_135, c_196, c_206]))) (WfM.oth (WfM.oth (WfM.refs hB (WfM.oth (WfM.meets hB hWs75) (by decide))) (by decide)) (by decide)) (by rw [sset_f (by decide), sset_f (by decide), ref23_t, sset_f (by decide), meets23_t]; exact h23) (by rw [sset_f (by decide), sset_eq]; exact gt_19 h19 c_196) hR)
                    · refine v_aload_n (pc := 209) O dX5_get_209 rfl ?_
                      refine v_iload_n (pc := 210) O dX5_get_210 rfl ?_
                      refine v_iload (pc := 211) O dX5_get_211 rfl ?_
                      refine v_callVi0 (pc := 213) (nA := 2) O (mm_restarts (xL X) Γ ad t (latestF (meetsS s75 t key) key th) h_t hR) hR.1 rfl q2275 q2277 qs40 q71 q2278 (by decide +kernel) rfl rfl rfl rfl (Nat.le_of_ble_eq_true rfl) (Nat.le_refl _) (Nat.le_refl _) dX5_get_213 (fun x μ h => ?_)
                      obtain ⟨rfl, hR⟩ := h
                      have hfin : getGo t key th (gFuel s1 t th) s1 = ((restartsS (refS (sset (meetsS s75 t key) 20 (meetsF s75 t key) ((gt2 (s75 19 t) th) + 1)) t (latestF (meetsS s75 t key) key th)) t (latestF (meetsS s75 t key) key th)), (-12)) := he75.trans (getGo_l (by simp [getTurn, m18, m19, m20, r19, r20, lat_oth, val_oth, sset_f, sset_eq, c_107, c_119, c_135, c_196, c_206]))
                      exact v_iret (pc := 216) O hr (Nat.le_refl _) (Nat.le_refl _) dX5_get_216 ⟨_, rfl, ⟨by rw [h0, hfin], by rw [h0, hfin]; exact hR⟩⟩
        exact v_locs [0, 1, 2, 3, 4, 5, 6] rfl (L75 (gFuel s1 t th) s1  _ (by unfold gFuel; have := pend_40 s1; omega) rfl hWs1 h231 (by rw [hs1, opensS_g (by decide), sset_f (by decide)]; exact h19 t) hR)
      · refine v_aload_n (pc := 44) O dX5_get_44 rfl ?_
        refine vm_get (pc := 45) O hR 29 rfl q2072 rfl dX5_get_45 ?_
        refine v_bipush (pc := 48) O (x := 32) dX5_get_48 (by decide) ?_
        refine v_iload_n (pc := 50) O dX5_get_50 rfl ?_
        refine v_imul (pc := 51) O dX5_get_51 ?_
        refine v_iload_n (pc := 52) O dX5_get_52 rfl ?_
        refine v_iadd (pc := 53) O dX5_get_53 ?_
        refine vm_iald (pc := 54) O hR 29 rfl rfl (ir_32' h_t h_key) (x := (s1 29 ((32 * t) + key))) rfl dX5_get_54 ?_
        exact v_iret (pc := 55) O hr (Nat.le_refl _) (Nat.le_refl _) dX5_get_55 ⟨_, rfl, ⟨by simp [getO, b2i, ← hs1, c_6, c_23, c_41], by simpa [getO, b2i, ← hs1, c_6, c_23, c_41] using hR⟩⟩
    · refine v_iload (pc := 26) O dX5_get_26 rfl ?_
      rw [opensS_n c_23] at hR
      exact v_iret (pc := 28) O hr (Nat.le_refl _) (Nat.le_refl _) dX5_get_28 ⟨_, rfl, ⟨by simp [getO, b2i, c_6, c_23], by simpa [getO, b2i, c_6, c_23] using hR⟩⟩
  · refine v_iconst (pc := 9) O (x := 0) dX5_get_9 (by decide) ?_
    exact v_iret (pc := 10) O hr (Nat.le_refl _) (Nat.le_refl _) dX5_get_10 ⟨_, rfl, ⟨by simp [getO, b2i, c_6], by simpa [getO, b2i, c_6] using hR⟩⟩
set_option maxHeartbeats 4000000 in
theorem mm_put (l : Launch) (Γ : Gm) (ad : Nat → Nat) (t key v : Int32) {s : St} {μ0 : Mem} {B : Nat} (hB : B ≤ 1000) (hW : WfM B s) (hR : RepM Γ ad s μ0) : MetV l Γ yX5_put cX5_put 7 (some .int) 5 0 0 [.ref (ad 0), .int t, .int key, .int v] μ0 (PI (fun r9 μ1 => r9 = (putO s t key v).2 ∧ RepM Γ ad ((putO s t key v).1) μ1)) := by
  refine MetV.of (by decide +kernel) rfl ?_
  intro X sz hl hr hnm O
  subst hl
  show V X Γ _ 7 _ 0 0 μ0 0 [(0, .ref (ad 0)), (1, .int t), (2, .int key), (3, .int v)] []
  refine v_aload_n (pc := 0) O dX5_put_0 rfl ?_
  refine v_iload_n (pc := 1) O dX5_put_1 rfl ?_
  refine v_iload_n (pc := 2) O dX5_put_2 rfl ?_
  refine v_callVi0 (pc := 3) (nA := 2) O (mm_areThere (xL X) Γ ad t key hR) hR.1 rfl q2223 q2225 qs27 q71 q2226 (by decide +kernel) rfl rfl rfl rfl (Nat.le_of_ble_eq_true rfl) (Nat.le_refl _) (Nat.le_refl _) dX5_put_3 (fun x μ h => ?_)
  obtain ⟨rfl, hR⟩ := h
  refine v_if_ne_b (pc := 6) (tgt := 11) O dX5_put_6 (by decide) (fun c_6 => ?_) (fun c_6 => ?_)
  · have hR : RepM Γ ad (sset s 31 0 0) μ := by simpa [c_6, b2i] using hR
    have h_t := (th_ir hW c_6).1
    have h_key := (th_ir hW c_6).2
    refine v_aload_n (pc := 11) O dX5_put_11 rfl ?_
    refine v_iload_n (pc := 12) O dX5_put_12 rfl ?_
    refine v_iconst (pc := 13) O (x := 0) dX5_put_13 (by decide) ?_
    refine v_sipush (pc := 14) O (x := 1000) dX5_put_14 (by decide) ?_
    refine v_callSi0 (pc := 17) (nA := 3) O (mm_in (xL X) Γ v 0 1000 _) q2149 q2150 q71 q2151 (by decide +kernel) rfl rfl rfl rfl (Nat.le_of_ble_eq_true rfl) (Nat.le_refl _) (Nat.le_refl _) dX5_put_17 (fun x μ1 h => ?_)
    obtain ⟨rfl, rfl⟩ := h
    refine v_if_eq_b (pc := 20) (tgt := 27) O dX5_put_20 (by decide) (fun c_20 => ?_) (fun c_20 => ?_)
    · refine v_iconst (pc := 27) O (x := 2) dX5_put_27 (by decide) ?_
      refine vm_put (pc := 28) O hR 31 (by decide) q2074 dX5_put_28 (fun μ hR => ?_)
      refine v_aload_n (pc := 31) O dX5_put_31 rfl ?_
      refine vm_geti (pc := 32) O hR 31 rfl q2074 (x := 2) rfl sset_eq dX5_put_32 ?_
      refine v_if_le (pc := 35) (tgt := 40) O dX5_put_35 (by decide) (fun c => absurd c (by decide)) (fun _ => ?_)
      refine v_iconst (pc := 38) O (x := 0) dX5_put_38 (by decide) ?_
      exact v_iret (pc := 39) O hr (Nat.le_refl _) (Nat.le_refl _) dX5_put_39 ⟨_, rfl, ⟨by simp [putO, b2i, c_6, c_20], by simpa [putO, b2i, c_6, c_20] using hR⟩⟩
    · refine v_iconst (pc := 23) O (x := 0) dX5_put_23 (by decide) ?_
      refine v_goto (pc := 24) O (tgt := 28) dX5_put_24 (by decide) ?_
      refine vm_put (pc := 28) O hR 31 (by decide) q2074 dX5_put_28 (fun μ hR => ?_)
      refine v_aload_n (pc := 31) O dX5_put_31 rfl ?_
      refine vm_geti (pc := 32) O hR 31 rfl q2074 (x := 0) rfl sset_eq dX5_put_32 ?_
      refine v_if_le (pc := 35) (tgt := 40) O dX5_put_35 (by decide) (fun _ => ?_) (fun c => absurd (by decide) c)
      refine v_iload_n (pc := 40) O dX5_put_40 rfl ?_
      refine v_istore (pc := 41) (lv' := [(4, .int t), (0, .ref (ad 0)), (1, .int t), (2, .int key), (3, .int v)]) O dX5_put_41 rfl rfl ?_
      refine v_aload_n (pc := 43) O dX5_put_43 rfl ?_
      refine v_iload (pc := 44) O dX5_put_44 rfl ?_
      refine v_iload_n (pc := 46) O dX5_put_46 rfl ?_
      refine v_callVi0 (pc := 47) (nA := 2) O (mm_opens (xL X) Γ ad t key h_t (WfM.oth (WfM.oth hW (by decide)) (by decide)) hR) hR.1 rfl q2227 q2229 qs28 q71 q2230 (by decide +kernel) rfl rfl rfl rfl (Nat.le_of_ble_eq_true rfl) (Nat.le_refl _) (Nat.le_refl _) dX5_put_47 (fun x μ h => ?_)
      obtain ⟨rfl, hR⟩ := h
      refine v_istore (pc := 50) (lv' := [(5, .int (opensF (sset (sset s 31 0 0) 31 0 0) t key)), (4, .int t), (0, .ref (ad 0)), (1, .int t), (2, .int key), (3, .int v)]) O dX5_put_50 rfl rfl ?_
      refine v_iload (pc := 52) O dX5_put_52 rfl ?_
      refine v_if_eq (pc := 54) (tgt := 60) O dX5_put_54 (by decide) (fun c_54 => ?_) (fun c_54 => ?_)
      · have h23s := opens23 c_54
        obtain ⟨s1, hs1⟩ : ∃ z, z = (opensS (sset (sset s 31 0 0) 31 0 0) t key) := ⟨_, rfl⟩
        rw [← hs1] at hR
        have hWs1 : WfM B s1 := by rw [hs1]; exact (WfM.opens (WfM.oth (WfM.oth hW (by decide)) (by decide)))
        have h231 : s1 23 t = 0 := by rw [hs1, opensS_g (by decide)]; exact h23s
        refine v_aload_n (pc := 60) O dX5_put_60 rfl ?_
        refine v_iload (pc := 61) O dX5_put_61 rfl ?_
        refine v_iload_n (pc := 63) O dX5_put_63 rfl ?_
        refine v_callVi0 (pc := 64) (nA := 2) O (mm_meets (xL X) Γ ad t key hB h_key hWs1 hR) hR.1 rfl q2231 q2233 qs29 q71 q2234 (by decide +kernel) rfl rfl rfl rfl (Nat.le_of_ble_eq_true rfl) (Nat.le_refl _) (Nat.le_refl _) dX5_put_64 (fun x μ h => ?_)
        obtain ⟨rfl, hR⟩ := h
        refine v_istore (pc := 67) (lv' := [(6, .int (meetsF s1 t key)), (5, .int (opensF (sset (sset s 31 0 0) 31 0 0) t key)), (4, .int t), (0, .ref (ad 0)), (1, .int t), (2, .int key), (3, .int v)]) O dX5_put_67 rfl rfl ?_
        have L69 : ∀ (d69 : Nat) (sp : St) (μ : Mem), pend sp < d69 → putGo t key v 41 s1 = putGo t key v d69 sp → WfM B sp → sp 23 t = 0 → RepM Γ ad (meetsS sp t key) μ → V X Γ (gA μ0 sz) 7 (QV X Γ μ0 sz (PI (fun r9 μ1 => r9 = (putO s t key v).2 ∧ RepM Γ ad ((putO s t key v).1) μ1)) 0 0) 0 0 μ 69 [(6, .int (meetsF sp t key)), (5, .int (opensF (sset (sset s 31 0 0) 31 0 0) t key)), (4, .int t), (0, .ref (ad 0)), (1, .int t), (2, .int key), (3, .int v)] [] := by
          intro d69
          induction d69 with
          | zero =>
            intro sp μ hd69 he69 hWsp h23 hR
            exact absurd hd69 (by omega)
          | succ d69 ih69 =>
            intro sp μ hd69 he69 hWsp h23 hR
            refine v_iload (pc := 69) O dX5_put_69 rfl ?_
            refine v_iconst (pc := 71) O (x := -1) dX5_put_71 (by decide) ?_
            refine v_icmp_eq (pc := 72) (tgt := 140) O dX5_put_72 (by decide) (fun c_72 => ?_) (fun c_72 => ?_)
            · refine v_aload_n (pc := 140) O dX5_put_140 rfl ?_
              refine vm_get (pc := 141) O hR 20 rfl q2063 rfl dX5_put_141 ?_
              refine v_iload (pc := 144) O dX5_put_144 rfl ?_
              refine v_aload_n (pc := 146) O dX5_put_146 rfl ?_
              refine vm_get (pc := 147) O hR 20 rfl q2063 rfl dX5_put_147 ?_
              refine v_iload (pc := 150) O dX5_put_150 rfl ?_
              refine vm_iald (pc := 152) O hR 20 rfl rfl h_t (x := (sp 20 t)) ((congrFun (meetsS_g (by decide)) _).trans rfl) dX5_put_152 ?_
              refine v_aload_n (pc := 153) O dX5_put_153 rfl ?_
              refine v_iload_n (pc := 154) O dX5_put_154 rfl ?_
              refine v_ldci (pc := 155) O dX5_put_155 q2287 ?_
              refine v_callVi0 (pc := 157) (nA := 2) O (mm_latest (xL X) Γ ad key 1000000 hB (WfM.meets hB hWsp) hR) hR.1 rfl q2263 q2265 qs37 q71 q2266 (by decide +kernel) rfl rfl rfl rfl (Nat.le_of_ble_eq_true rfl) (Nat.le_refl _) (Nat.le_refl _) dX5_put_157 (fun x μ h => ?_)
              obtain ⟨rfl, hR⟩ := h
              refine v_iconst (pc := 160) O (x := 1) dX5_put_160 (by decide) ?_
              refine v_iadd (pc := 161) O dX5_put_161 ?_
              refine v_callSi0 (pc := 162) (nA := 2) O (mm_greater (xL X) Γ (sp 20 t) ((latestF (meetsS sp t key) key 1000000) + 1) _) q2164 q2165 q71 q2166 (by decide +kernel) rfl rfl rfl rfl (Nat.le_of_ble_eq_true rfl) (Nat.le_refl _) (Nat.le_refl _) dX5_put_162 (fun x μ1 h => ?_)
              obtain ⟨rfl, rfl⟩ := h
              refine vm_iast (pc := 165) O hR 20 rfl rfl h_t dX5_put_165 (fun μ hR => ?_)
              refine v_aload_n (pc := 166) O dX5_put_166 rfl ?_
              refine vm_get (pc := 167) O hR 20 rfl q2063 rfl dX5_put_167 ?_
              refine v_iload (pc := 170) O dX5_put_170 rfl ?_
              refine v_aload_n (pc := 172) O dX5_put_172 rfl ?_
              refine vm_get (pc := 173) O hR 11 rfl q2054 rfl dX5_put_173 ?_
              refine v_iload_n (pc := 176) O dX5_put_176 rfl ?_
              refine vm_iald (pc := 177) O hR 11 rfl rfl h_key (x := (sp 11 key)) ((sset_f (by decide)).trans ((congrFun (meetsS_g (by decide)) _).trans rfl)) dX5_put_177 ?_
              refine v_iload (pc := 178) O dX5_put_178 rfl ?_
              refine v_icmp_ne (pc := 180) (tgt := 193) O dX5_put_180 (by decide) (fun c_180 => ?_) (fun c_180 => ?_)
              · refine v_aload_n (pc := 193) O dX5_put_193 rfl ?_
                refine vm_get (pc := 194) O hR 20 rfl q2063 rfl dX5_put_194 ?_
                refine v_iload (pc := 197) O dX5_put_197 rfl ?_
                refine vm_iald (pc := 199) O hR 20 rfl rfl h_t (x := (gt2 (sp 20 t) ((latestF (meetsS sp t key) key 1000000) + 1))) sset_eq dX5_put_199 ?_
                refine v_aload_n (pc := 200) O dX5_put_200 rfl ?_
                refine vm_get (pc := 201) O hR 10 rfl q2053 rfl dX5_put_201 ?_
                refine v_iload_n (pc := 204) O dX5_put_204 rfl ?_
                refine vm_iald (pc := 205) O hR 10 rfl rfl h_key (x := (sp 10 key)) ((sset_f (by decide)).trans ((congrFun (meetsS_g (by decide)) _).trans rfl)) dX5_put_205 ?_
                refine v_iconst (pc := 206) O (x := 1) dX5_put_206 (by decide) ?_
                refine v_iadd (pc := 207) O dX5_put_207 ?_
                refine v_callSi0 (pc := 208) (nA := 2) O (mm_greater (xL X) Γ (gt2 (sp 20 t) ((latestF (meetsS sp t key) key 1000000) + 1)) ((sp 10 key) + 1) _) q2164 q2165 q71 q2166 (by decide +kernel) rfl rfl rfl rfl (Nat.le_of_ble_eq_true rfl) (Nat.le_refl _) (Nat.le_refl _) dX5_put_208 (fun x μ1 h => ?_)
                obtain ⟨rfl, rfl⟩ := h
                refine vm_iast (pc := 211) O hR 20 rfl rfl h_t dX5_put_211 (fun μ hR => ?_)
                refine v_aload_n (pc := 212) O dX5_put_212 rfl ?_
                refine vm_get (pc := 213) O hR 7 rfl q2050 rfl dX5_put_213 ?_
                refine v_iload_n (pc := 216) O dX5_put_216 rfl ?_
                refine v_iload (pc := 217) O dX5_put_217 rfl ?_
                refine vm_iast (pc := 219) O hR 7 rfl rfl h_key dX5_put_219 (fun μ hR => ?_)
                refine v_aload_n (pc := 220) O dX5_put_220 rfl ?_
                refine vm_get (pc := 221) O hR 8 rfl q2051 rfl dX5_put_221 ?_
                refine v_iload_n (pc := 224) O dX5_put_224 rfl ?_
                refine v_iconst (pc := 225) O (x := 0) dX5_put_225 (by decide) ?_
                refine vm_zast (pc := 226) O hR 8 rfl rfl h_key rfl dX5_put_226 (fun μ hR => ?_)
                refine v_aload_n (pc := 227) O dX5_put_227 rfl ?_
                refine vm_get (pc := 228) O hR 9 rfl q2052 rfl dX5_put_228 ?_
                refine v_iload_n (pc := 231) O dX5_put_231 rfl ?_
                refine v_iload_n (pc := 232) O dX5_put_232 rfl ?_
                refine vm_iast (pc := 233) O hR 9 rfl rfl h_key dX5_put_233 (fun μ hR => ?_)
                refine v_aload_n (pc := 234) O dX5_put_234 rfl ?_
                refine vm_get (pc := 235) O hR 29 rfl q2072 rfl dX5_put_235 ?_
                refine v_bipush (pc := 238) O (x := 32) dX5_put_238 (by decide) ?_
                refine v_iload (pc := 240) O dX5_put_240 rfl ?_
                refine v_imul (pc := 242) O dX5_put_242 ?_
                refine v_iload_n (pc := 243) O dX5_put_243 rfl ?_
                refine v_iadd (pc := 244) O dX5_put_244 ?_
                refine v_iload_n (pc := 245) O dX5_put_245 rfl ?_
                refine vm_iast (pc := 246) O hR 29 rfl rfl (ir_32' h_t h_key) dX5_put_246 (fun μ hR => ?_)
                refine v_iconst (pc := 247) O (x := 0) dX5_put_247 (by decide) ?_
                have hfin : putGo t key v 41 s1 = ((sset (sset (sset (sset (sset (sset (meetsS sp t key) 20 t (gt2 (sp 20 t) ((latestF (meetsS sp t key) key 1000000) + 1))) 20 t (gt2 (gt2 (sp 20 t) ((latestF (meetsS sp t key) key 1000000) + 1)) ((sp 10 key) + 1))) 7 key t) 8 key 0) 9 key v) 29 ((32 * t) + key) v), 0) := he69.trans (putGo_l (by simp [putTurn, putEnd, m18, m20, m10, m11, sset_f, sset_eq, lat_oth, c_72, c_180]))
                have h0 : putO s t key v = putGo t key v 41 s1 := by simp [putO, c_6, c_20, c_54, ← hs1]
                exact v_iret (pc := 248) O hr (Nat.le_refl _) (Nat.le_refl _) dX5_put_248 ⟨_, rfl, ⟨by rw [h0, hfin], by rw [h0, hfin]; exact hR⟩⟩
              · refine v_aload_n (pc := 183) O dX5_put_183 rfl ?_
                refine vm_get (pc := 184) O hR 20 rfl q2063 rfl dX5_put_184 ?_
                refine v_iload (pc := 187) O dX5_put_187 rfl ?_
                refine vm_iald (pc := 189) O hR 20 rfl rfl h_t (x := (gt2 (sp 20 t) ((latestF (meetsS sp t key) key 1000000) + 1))) sset_eq dX5_put_189 ?_
                refine v_goto (pc := 190) O (tgt := 211) dX5_put_190 (by decide) ?_
                refine vm_iast (pc := 211) O hR 20 rfl rfl h_t dX5_put_211 (fun μ hR => ?_)
                refine v_aload_n (pc := 212) O dX5_put_212 rfl ?_
                refine vm_get (pc := 213) O hR 7 rfl q2050 rfl dX5_put_213 ?_
                refine v_iload_n (pc := 216) O dX5_put_216 rfl ?_
                refine v_iload (pc := 217) O dX5_put_217 rfl ?_
                refine vm_iast (pc := 219) O hR 7 rfl rfl h_key dX5_put_219 (fun μ hR => ?_)
                refine v_aload_n (pc := 220) O dX5_put_220 rfl ?_
                refine vm_get (pc := 221) O hR 8 rfl q2051 rfl dX5_put_221 ?_
                refine v_iload_n (pc := 224) O dX5_put_224 rfl ?_
                refine v_iconst (pc := 225) O (x := 0) dX5_put_225 (by decide) ?_
                refine vm_zast (pc := 226) O hR 8 rfl rfl h_key rfl dX5_put_226 (fun μ hR => ?_)
                refine v_aload_n (pc := 227) O dX5_put_227 rfl ?_
                refine vm_get (pc := 228) O hR 9 rfl q2052 rfl dX5_put_228 ?_
                refine v_iload_n (pc := 231) O dX5_put_231 rfl ?_
                refine v_iload_n (pc := 232) O dX5_put_232 rfl ?_
                refine vm_iast (pc := 233) O hR 9 rfl rfl h_key dX5_put_233 (fun μ hR => ?_)
                refine v_aload_n (pc := 234) O dX5_put_234 rfl ?_
                refine vm_get (pc := 235) O hR 29 rfl q2072 rfl dX5_put_235 ?_
                refine v_bipush (pc := 238) O (x := 32) dX5_put_238 (by decide) ?_
                refine v_iload (pc := 240) O dX5_put_240 rfl ?_
                refine v_imul (pc := 242) O dX5_put_242 ?_
                refine v_iload_n (pc := 243) O dX5_put_243 rfl ?_
                refine v_iadd (pc := 244) O dX5_put_244 ?_
                refine v_iload_n (pc := 245) O dX5_put_245 rfl ?_
                refine vm_iast (pc := 246) O hR 29 rfl rfl (ir_32' h_t h_key) dX5_put_246 (fun μ hR => ?_)
                refine v_iconst (pc := 247) O (x := 0) dX5_put_247 (by decide) ?_
                have hfin : putGo t key v 41 s1 = ((sset (sset (sset (sset (sset (sset (meetsS sp t key) 20 t (gt2 (sp 20 t) ((latestF (meetsS sp t key) key 1000000) + 1))) 20 t (gt2 (sp 20 t) ((latestF (meetsS sp t key) key 1000000) + 1))) 7 key t) 8 key 0) 9 key v) 29 ((32 * t) + key) v), 0) := he69.trans (putGo_l (by simp [putTurn, putEnd, m18, m20, m10, m11, sset_f, sset_eq, lat_oth, c_72, c_180]))
                have h0 : putO s t key v = putGo t key v 41 s1 := by simp [putO, c_6, c_20, c_54, ← hs1]
                exact v_iret (pc := 248) O hr (Nat.le_refl _) (Nat.le_refl _) dX5_put_248 ⟨_, rfl, ⟨by rw [h0, hfin], by rw [h0, hfin]; exact hR⟩⟩
            · refine v_aload_n (pc := 75) O dX5_put_75 rfl ?_
              refine vm_get (pc := 76) O hR 18 rfl q2061 rfl dX5_put_76 ?_
              refine v_iload (pc := 79) O dX5_put_79 rfl ?_
              refine vm_iald (pc := 81) O hR 18 rfl rfl h_t (x := (sp 18 t)) ((congrFun (meetsS_g (by decide)) _).trans rfl) dX5_put_81 ?_
              refine v_aload_n (pc := 82) O dX5_put_82 rfl ?_
              refine vm_get (pc := 83) O hR 18 rfl q2061 rfl dX5_put_83 ?_
              refine v_iload (pc := 86) O dX5_put_86 rfl ?_
              refine vm_iald (pc := 88) O hR 18 rfl rfl (hWsp.mF c_72) (x := (sp 18 (meetsF sp t key))) ((congrFun (meetsS_g (by decide)) _).trans rfl) dX5_put_88 ?_
              refine v_icmp_le (pc := 89) (tgt := 110) O dX5_put_89 (by decide) (fun c_89 => ?_) (fun c_89 => ?_)
              · refine v_aload_n (pc := 110) O dX5_put_110 rfl ?_
                refine v_iload (pc := 111) O dX5_put_111 rfl ?_
                refine v_iload (pc := 113) O dX5_put_113 rfl ?_
                refine v_callVi0 (pc := 115) (nA := 2) O (mm_comesAnew (xL X) Γ ad t (meetsF sp t key) h_t (hWsp.mF c_72) (WfM.meets hB hWsp) hR) hR.1 rfl q2251 q2253 qs34 q71 q2254 (by decide +kernel) rfl rfl rfl rfl (Nat.le_of_ble_eq_true rfl) (Nat.le_refl _) (Nat.le_refl _) dX5_put_115 (fun x μ h => ?_)
                obtain ⟨rfl, hR⟩ := h
                refine v_if_ne_b (pc := 118) (tgt := 128) O dX5_put_118 (by decide) (fun c_118 => ?_) (fun c_118 => ?_)
                · refine v_aload_n (pc := 128) O dX5_put_128 rfl ?_
                  refine v_iload (pc := 129) O dX5_put_129 rfl ?_
                  refine v_iload_n (pc := 131) O dX5_put_131 rfl ?_
                  refine v_callVi0 (pc := 132) (nA := 2) O (mm_meets (xL X) Γ ad t key hB h_key (WfM.anew (hWsp.mF c_72) (WfM.meets hB hWsp)) hR) hR.1 rfl q2231 q2233 qs29 q71 q2234 (by decide +kernel) rfl rfl rfl rfl (Nat.le_of_ble_eq_true rfl) (Nat.le_refl _) (Nat.le_refl _) dX5_put_132 (fun x μ h => ?_)
                  obtain ⟨rfl, hR⟩ := h
                  refine v_istore (pc := 135) (lv' := [(6, .int (meetsF (anewS (meetsS sp t key) t (meetsF sp t key)) t key)), (5, .int (opensF (sset (sset s 31 0 0) 31 0 0) t key)), (4, .int t), (0, .ref (ad 0)), (1, .int t), (2, .int key), (3, .int v)]) O dX5_put_135 rfl rfl ?_
                  refine v_goto (pc := 137) O (tgt := 69) dX5_put_137 (by decide) ?_
                  exact v_locs [0, 1, 2, 3, 4, 5, 6] rfl (ih69  (anewS (meetsS sp t key) t (meetsF sp t key)) μ (by have h9 := pt_b1 hB hWsp h_t h23 c_72 c_118; omega) (he69.trans (putGo_r (by simp [putTurn, m18, c_72, c_89, c_118]))) (WfM.anew (hWsp.mF c_72) (WfM.meets hB hWsp)) ((anew_t c_118).trans (meets23_t.trans h23)) hR)
                · refine v_aload_n (pc := 121) O dX5_put_121 rfl ?_
                  refine v_iload (pc := 122) O dX5_put_122 rfl ?_
                  refine v_callVi0 (pc := 124) (nA := 1) O (mm_waitAnswer (xL X) Γ ad t h_t hR) hR.1 rfl q2259 q2261 qs36 q71 q2262 (by decide +kernel) rfl rfl rfl rfl (Nat.le_of_ble_eq_true rfl) (Nat.le_refl _) (Nat.le_refl _) dX5_put_124 (fun x μ h => ?_)
                  obtain ⟨rfl, hR⟩ := h
                  have hfin : putGo t key v 41 s1 = ((anewS (meetsS sp t key) t (meetsF sp t key)), (waitAnsF (anewS (meetsS sp t key) t (meetsF sp t key)) t)) := he69.trans (putGo_l (by simp [putTurn, putEnd, m18, m20, m10, m11, sset_f, sset_eq, lat_oth, c_72, c_89, c_118]))
                  have h0 : putO s t key v = putGo t key v 41 s1 := by simp [putO, c_6, c_20, c_54, ← hs1]
                  exact v_iret (pc := 127) O hr (Nat.le_refl _) (Nat.le_refl _) dX5_put_127 ⟨_, rfl, ⟨by rw [h0, hfin], by rw [h0, hfin]; exact hR⟩⟩
              · refine v_aload_n (pc := 92) O dX5_put_92 rfl ?_
                refine vm_get (pc := 93) O hR 23 rfl q2066 rfl dX5_put_93 ?_
                refine v_iload (pc := 96) O dX5_put_96 rfl ?_
                refine v_iconst (pc := 98) O (x := 3) dX5_put_98 (by decide) ?_
                refine vm_iast (pc := 99) O hR 23 rfl rfl (hWsp.mF c_72) dX5_put_99 (fun μ hR => ?_)
                refine v_aload_n (pc := 100) O dX5_put_100 rfl ?_
                refine vm_get (pc := 101) O hR 7 rfl q2050 rfl dX5_put_101 ?_
                refine v_iload_n (pc := 104) O dX5_put_104 rfl ?_
                refine v_iconst (pc := 105) O (x := -1) dX5_put_105 (by decide) ?_
                refine vm_iast (pc := 106) O hR 7 rfl rfl h_key dX5_put_106 (fun μ hR => ?_)
                refine v_goto (pc := 107) O (tgt := 128) dX5_put_107 (by decide) ?_
                refine v_aload_n (pc := 128) O dX5_put_128 rfl ?_
                refine v_iload (pc := 129) O dX5_put_129 rfl ?_
                refine v_iload_n (pc := 131) O dX5_put_131 rfl ?_
                refine v_callVi0 (pc := 132) (nA := 2) O (mm_meets (xL X) Γ ad t key hB h_key (WfM.c7 (WfM.oth (WfM.meets hB hWsp) (by decide))) hR) hR.1 rfl q2231 q2233 qs29 q71 q2234 (by decide +kernel) rfl rfl rfl rfl (Nat.le_of_ble_eq_true rfl) (Nat.le_refl _) (Nat.le_refl _) dX5_put_132 (fun x μ h => ?_)
                obtain ⟨rfl, hR⟩ := h
                refine v_istore (pc := 135) (lv' := [(6, .int (meetsF (sset (sset (meetsS sp t key) 23 (meetsF sp t key) 3) 7 key (-1)) t key)), (5, .int (opensF (sset (sset s 31 0 0) 31 0 0) t key)), (4, .int t), (0, .ref (ad 0)), (1, .int t), (2, .int key), (3, .int v)]) O dX5_put_135 rfl rfl ?_
                refine v_goto (pc := 137) O (tgt := 69) dX5_put_137 (by decide) ?_
                exact v_locs [0, 1, 2, 3, 4, 5, 6] rfl (ih69  (sset (sset (meetsS sp t key) 23 (meetsF sp t key) 3) 7 key (-1)) μ (by have h9 := pt_b2 hWsp c_72; omega) (he69.trans (putGo_r (by simp [putTurn, m18, c_72, c_89]))) (WfM.c7 (WfM.oth (WfM.meets hB hWsp) (by decide))) (by rw [sset_f (by decide), sset_i (Ne.symm (meetsF_0 c_72).2), meets23_t]; exact h23) hR)
        exact v_locs [0, 1, 2, 3, 4, 5, 6] rfl (L69 41  s1 _ (by have := pend_40 s1; omega) rfl hWs1 h231 hR)
      · refine v_iload (pc := 57) O dX5_put_57 rfl ?_
        rw [opensS_n c_54] at hR
        exact v_iret (pc := 59) O hr (Nat.le_refl _) (Nat.le_refl _) dX5_put_59 ⟨_, rfl, ⟨by simp [putO, b2i, c_6, c_20, c_54], by simpa [putO, b2i, c_6, c_20, c_54] using hR⟩⟩
  · refine v_iconst (pc := 9) O (x := 0) dX5_put_9 (by decide) ?_
    exact v_iret (pc := 10) O hr (Nat.le_refl _) (Nat.le_refl _) dX5_put_10 ⟨_, rfl, ⟨by simp [putO, b2i, c_6], by simpa [putO, b2i, c_6] using hR⟩⟩

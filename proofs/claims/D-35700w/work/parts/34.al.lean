/-! ArrayList, by contract (printed by gen/al.py). ALm: the list at a holds L, its modCount is m; tag c -/
set_option maxRecDepth 100000
abbrev objs (f : Nat → Option Nat) : Int32 → Unit := fun _ => ()
def AR (Γ : Gm) (c arr cap : Nat) (f : Nat → Option Nat) (μ : Mem) : Prop := (arr = Γ.2.2 257 ∧ cap = 0) ∨ (1 ≤ cap ∧ μ arr = some (.inl (Γ.2.1 3, cap, .inr (.inr (.inr (.inr f)))), c))
def ALm (Γ : Gm) (c a : Nat) (m : Int32) (L : List Nat) (μ : Mem) : Prop := ∃ (arr cap : Nat) (f : Nat → Option Nat), μ a = some (.inr (9, [.int m, .ref arr, .int (nI L.length)]), c) ∧ AR Γ c arr cap f μ ∧ L.length ≤ cap ∧ cap ≤ 600 ∧ ∀ j, j < L.length → f j = L[j]?
def AL (Γ : Gm) (c a : Nat) (L : List Nat) (μ : Mem) : Prop := ∃ m, ALm Γ c a m L μ
theorem AR.upd {Γ : Gm} {c c' arr cap : Nat} {f : Nat → Option Nat} {μ μ' : Mem} (h : AR Γ c arr cap f μ) (hU : Upd c' μ μ') (hc : c ≠ c') : AR Γ c arr cap f μ' := h.imp id (fun h => ⟨h.1, hU.to h.2 hc⟩)
theorem ALm.upd {Γ : Gm} {c c' a : Nat} {m : Int32} {L : List Nat} {μ μ' : Mem} (h : ALm Γ c a m L μ) (hU : Upd c' μ μ') (hc : c ≠ c') : ALm Γ c a m L μ' := by
  obtain ⟨arr, cap, f, h1, h2, h3⟩ := h
  exact ⟨arr, cap, f, hU.to h1 hc, h2.upd hU hc, h3⟩
theorem AL.upd {Γ : Gm} {c c' a : Nat} {L : List Nat} {μ μ' : Mem} (h : AL Γ c a L μ) (hU : Upd c' μ μ') (hc : c ≠ c') : AL Γ c a L μ' := by
  obtain ⟨m, h⟩ := h
  exact ⟨m, h.upd hU hc⟩
theorem pc_add {o g p : Nat} (ho : o ≤ 600) (hg : g ≤ 1000) (hp : p ≤ 1000) : nI o + nI (Nat.max g p) = nI (o + Nat.max g p) := nI_add _ _
theorem nmax_le {g p : Nat} {b : Nat} (hg : g ≤ b) (hp : p ≤ b) : Nat.max g p ≤ b := Nat.max_le.mpr ⟨hg, hp⟩
theorem nI_clampB {n b : Nat} (h : n ≤ b) (hb : b < 2 ^ 31) : (nI n).toNatClampNeg = n := nI_clamp (by omega)
theorem AL0.mk {Γ : Gm} {c a : Nat} {L : List Nat} {μ : Mem} {arr cap : Nat} {f : Nat → Option Nat} {m x : Int32} (h : μ a = some (.inr (9, [.int m, .ref arr, .int x]), c)) (hx : x = nI L.length) (h2 : μ arr = some (.inl (Γ.2.1 3, cap, .inr (.inr (.inr (.inr f)))), c)) (h1 : 1 ≤ cap) (h3 : L.length ≤ cap) (h4 : cap ≤ 600) (h5 : ∀ j, j < L.length → f j = L[j]?) : AL Γ c a L μ := ⟨m, arr, cap, f, by rw [h, hx], Or.inr ⟨h1, h2⟩, h3, h4, h5⟩
theorem nI_nle0 {n : Nat} (h : 1 ≤ n) (h2 : n < 2 ^ 31) : ¬ nI n ≤ 0 := by
  rw [i_le, nI_toInt h2]
  have e0 : (0 : Int32).toInt = 0 := by decide
  omega
theorem nI_nlt0 {n : Nat} (h2 : n < 2 ^ 31) : ¬ nI n < 0 := nI_pos h2
theorem nmax_ge {g p : Nat} : g ≤ Nat.max g p := Nat.le_max_left _ _
theorem New.trans0 {μ0 μ1 : Mem} {a : Nat} {e : va_E × Nat} (h : New a e μ0 μ1) : New a e μ0 μ1 := h
set_option maxHeartbeats 4000000 in
theorem jm_newLength (l : Launch) (Γ : Gm) {o g p : Nat} (ho : o ≤ 600) (h1 : 1 ≤ g) (hg : g ≤ 1000) (hp : p ≤ 1000) (μ0 : Mem) : MetV l Γ yJ11_newLength cJ11_newLength 4 (some .int) 1 0 0 [.int (nI o), .int (nI g), .int (nI p)] μ0 (PI (fun r μ1 => r = nI (o + Nat.max g p) ∧ μ0 = μ1)) := by
  refine MetV.of (by decide +kernel) rfl ?_
  intro X sz hl hr hnm O
  subst hl
  have hmx := nmax_le hg hp
  have hmn := nmax_ge (g := g) (p := p)
  show V X Γ _ 4 _ 0 0 μ0 0 [(0, .int (nI o)), (1, .int (nI g)), (2, .int (nI p))] []
  refine v_iload_n (pc := 0) O dJ11_newLength_0 rfl ?_
  refine v_iload_n (pc := 1) O dJ11_newLength_1 rfl ?_
  refine v_iload_n (pc := 2) O dJ11_newLength_2 rfl ?_
  refine v_mmax (pc := 3) O q269 q270 q63 q271 rfl (Nat.le_of_ble_eq_true rfl) (by omega) (by omega) (z := (nI (Nat.max g p))) (nI_max (by omega) (by omega)) dJ11_newLength_3 ?_
  refine w_iadd (pc := 6) O (nI (o + Nat.max g p)) (nI_add _ _) dJ11_newLength_6 ?_
  refine v_istore_n (pc := 7) (lv' := [(3, .int (nI (o + Nat.max g p))), (0, .int (nI o)), (1, .int (nI g)), (2, .int (nI p))]) O dJ11_newLength_7 rfl rfl ?_
  refine v_iconst (pc := 8) O (x := 0) dJ11_newLength_8 (by decide) ?_
  refine v_iload_n (pc := 9) O dJ11_newLength_9 rfl ?_
  refine v_icmp_ge (pc := 10) (tgt := 21) O dJ11_newLength_10 (by decide) (fun c => absurd c (nI_nle0 (by omega) (by omega))) (fun _ => ?_)
  refine v_iload_n (pc := 13) O dJ11_newLength_13 rfl ?_
  refine v_ldci (pc := 14) O dJ11_newLength_14 q272 ?_
  refine v_icmp_gt (pc := 16) (tgt := 21) O dJ11_newLength_16 (by decide) (fun c => absurd c (show ¬ nI 2147483639 < nI (o + Nat.max g p) from nI_nlt (by omega) (by omega))) (fun _ => ?_)
  refine v_iload_n (pc := 19) O dJ11_newLength_19 rfl ?_
  exact v_iret (pc := 20) O hr (by omega) (by omega) dJ11_newLength_20 ⟨_, rfl, ⟨rfl, rfl⟩⟩
set_option maxHeartbeats 4000000 in
theorem jm_chk3 (l : Launch) (Γ : Gm) {i n : Nat} (hi : i < n) (hn : n ≤ 600) (μ0 : Mem) : MetV l Γ yJ14_checkIndex cJ14_checkIndex 3 (some .int) 1 0 0 [.int (nI i), .int (nI n), .null] μ0 (PI (fun r μ1 => r = nI i ∧ μ0 = μ1)) := by
  refine MetV.of (by decide +kernel) rfl ?_
  intro X sz hl hr hnm O
  subst hl
  show V X Γ _ 3 _ 0 0 μ0 0 [(0, .int (nI i)), (1, .int (nI n)), (2, .null)] []
  refine v_iload_n (pc := 0) O dJ14_checkIndex_0 rfl ?_
  refine v_if_lt (pc := 1) (tgt := 9) O dJ14_checkIndex_1 (by decide) (fun c => absurd c (nI_nlt0 (by omega))) (fun _ => ?_)
  refine v_iload_n (pc := 4) O dJ14_checkIndex_4 rfl ?_
  refine v_iload_n (pc := 5) O dJ14_checkIndex_5 rfl ?_
  refine v_icmp_lt (pc := 6) (tgt := 16) O dJ14_checkIndex_6 (by decide) (fun _ => ?_) (fun c => absurd (nI_lt hi (by omega)) c)
  refine v_iload_n (pc := 16) O dJ14_checkIndex_16 rfl ?_
  exact v_iret (pc := 17) O hr (by omega) (by omega) dJ14_checkIndex_17 ⟨_, rfl, ⟨rfl, rfl⟩⟩
set_option maxHeartbeats 4000000 in
theorem jm_chk (l : Launch) (Γ : Gm) {i n : Nat} (hi : i < n) (hn : n ≤ 600) (μ0 : Mem) : MetV l Γ yJ21_checkIndex cJ21_checkIndex 2 (some .int) 2 0 0 [.int (nI i), .int (nI n)] μ0 (PI (fun r μ1 => r = nI i ∧ μ0 = μ1)) := by
  refine MetV.of (by decide +kernel) rfl ?_
  intro X sz hl hr hnm O
  subst hl
  show V X Γ _ 2 _ 0 0 μ0 0 [(0, .int (nI i)), (1, .int (nI n))] []
  refine v_iload_n (pc := 0) O dJ21_checkIndex_0 rfl ?_
  refine v_iload_n (pc := 1) O dJ21_checkIndex_1 rfl ?_
  refine v_null (pc := 2) O dJ21_checkIndex_2 ?_
  refine v_callS (pc := 3) (nA := 3) O (jm_chk3 (xL X) Γ hi hn _) q781 q782 q66 q783 (by decide +kernel) rfl rfl rfl rfl (Nat.le_of_ble_eq_true rfl) (by omega) (by omega) dJ21_checkIndex_3 (v_kI (fun x μ9 h => ?_))
  obtain ⟨rfl, rfl⟩ := h
  exact v_iret (pc := 6) O hr (by omega) (by omega) dJ21_checkIndex_6 ⟨_, rfl, ⟨rfl, rfl⟩⟩
set_option maxHeartbeats 4000000 in
theorem jm_copy3 (l : Launch) (Γ : Gm) {arr cap m t : Nat} {f : Nat → Option Nat} {μ0 : Mem} (h_arr : μ0 arr = some (.inl (Γ.2.1 3, cap, .inr (.inr (.inr (.inr f)))), t)) (hE : ∀ i y, i < cap → f i = some y → isO μ0 y) (hcap : cap ≤ 600) (hm : m ≤ 1700) (c : Nat) : MetV l Γ yJ13_copyOf_3 cJ13_copyOf_3 4 (some (.array (.object "java/lang/Object"))) 1 1 m [.ref arr, .int (nI m), .ref (Γ.2.2 258)] μ0 (PR (fun r μ1 => New r (.inl (Γ.2.1 3, m, .inr (.inr (.inr (.inr (va_cpy f (fun _ => none) 0 0 (Nat.min cap m)))))), c) μ0 μ1)) := by
  refine MetV.of (by decide +kernel) rfl ?_
  intro X sz hl hr hnm O
  subst hl
  have hmn : Nat.min cap m ≤ cap := Nat.min_le_left _ _
  have hmm : Nat.min cap m ≤ m := Nat.min_le_right _ _
  show V X Γ _ 4 _ 0 0 μ0 0 [(0, .ref arr), (1, .int (nI m)), (2, .ref (Γ.2.2 258))] []
  refine v_aload_n (pc := 0) O dJ13_copyOf_3_0 rfl ?_
  refine w_ldcC (pc := 1) O q585 dJ13_copyOf_3_1 ?_
  refine v_acmp_ne (pc := 3) (tgt := 13) (rx := (some (Γ.2.2 258))) (ry := (some (Γ.2.2 258))) O dJ13_copyOf_3_3 (by decide) (fun c => absurd rfl c) (fun _ => ?_)
  refine v_iload_n (pc := 6) O dJ13_copyOf_3_6 rfl ?_
  refine w_newq (pc := 7) O c 3 rfl q586 (by decide) m (nI_pos (by omega)) (nI_clamp (by omega)) (by omega) (by omega) (by omega) dJ13_copyOf_3_7 (fun q μ pp => ?_)
  have hq := pp
  have h_arr := pp.oth h_arr
  have h_q : μ q = some (.inl (Γ.2.1 3, m, .inr (.inr (.inr (.inr (fun _ => none))))), c) := pp.2.1
  refine v_goto (pc := 10) O (tgt := 24) dJ13_copyOf_3_10 (by decide) ?_
  refine v_astore_n (pc := 24) (lv' := [(3, .ref q), (0, .ref arr), (1, .int (nI m)), (2, .ref (Γ.2.2 258))]) O dJ13_copyOf_3_24 rfl rfl ?_
  refine v_aload_n (pc := 25) O dJ13_copyOf_3_25 rfl ?_
  refine v_iconst (pc := 26) O (x := 0) dJ13_copyOf_3_26 (by decide) ?_
  refine v_aload_n (pc := 27) O dJ13_copyOf_3_27 rfl ?_
  refine v_iconst (pc := 28) O (x := 0) dJ13_copyOf_3_28 (by decide) ?_
  refine v_aload_n (pc := 29) O dJ13_copyOf_3_29 rfl ?_
  refine v_alen (pc := 30) O 3 rfl h_arr (v := nI cap) rfl dJ13_copyOf_3_30 ?_
  refine v_iload_n (pc := 31) O dJ13_copyOf_3_31 rfl ?_
  refine v_mmin (pc := 32) O q287 q288 q63 q289 rfl (Nat.le_of_ble_eq_true rfl) (by omega) (by omega) (z := (nI (Nat.min cap m))) (nI_min (by omega) (by omega)) dJ13_copyOf_3_32 ?_
  refine w_copy (pc := 35) O q290 q292 q291 q65 h_arr h_q (by decide) (by decide) (nI_pos (by omega)) (by rw [nI_clamp (by omega)]; exact Nat.le_trans (Nat.le_of_eq (Nat.zero_add _)) hmn) (by rw [nI_clamp (by omega)]; exact Nat.le_trans (Nat.le_of_eq (Nat.zero_add _)) hmm) (fun i hi y hy => hq.isO (hE i y (by rw [nI_clamp (by omega)] at hi; omega) (by rw [show i = (0 : Int32).toNatClampNeg + i from (Nat.zero_add _).symm]; exact hy))) rfl (Nat.le_of_ble_eq_true rfl) dJ13_copyOf_3_35 (fun μ pp => ?_)
  rw [nI_clamp (show Nat.min cap m < 2 ^ 31 by omega)] at pp
  have h_q : μ q = some (.inl (Γ.2.1 3, m, .inr (.inr (.inr (.inr (va_cpy f (fun _ => none) 0 0 (Nat.min cap m)))))), c) := pp.2.1
  refine v_aload_n (pc := 38) O dJ13_copyOf_3_38 rfl ?_
  exact v_aret (pc := 39) O hr (Or.inr ⟨_, rfl⟩) (by omega) (by omega) dJ13_copyOf_3_39 (Or.inr ⟨_, rfl⟩) ⟨q, rfl, hq.put pp⟩
set_option maxHeartbeats 4000000 in
theorem jm_copy (l : Launch) (Γ : Gm) {arr cap m t : Nat} {f : Nat → Option Nat} {μ0 : Mem} (h_arr : μ0 arr = some (.inl (Γ.2.1 3, cap, .inr (.inr (.inr (.inr f)))), t)) (hE : ∀ i y, i < cap → f i = some y → isO μ0 y) (hcap : cap ≤ 600) (hm : m ≤ 1700) (c : Nat) : MetV l Γ yJ13_copyOf_2 cJ13_copyOf_2 2 (some (.array (.object "java/lang/Object"))) 2 1 m [.ref arr, .int (nI m)] μ0 (PR (fun r μ1 => New r (.inl (Γ.2.1 3, m, .inr (.inr (.inr (.inr (va_cpy f (fun _ => none) 0 0 (Nat.min cap m)))))), c) μ0 μ1)) := by
  refine MetV.of (by decide +kernel) rfl ?_
  intro X sz hl hr hnm O
  subst hl
  show V X Γ _ 2 _ 0 0 μ0 0 [(0, .ref arr), (1, .int (nI m))] []
  refine v_aload_n (pc := 0) O dJ13_copyOf_2_0 rfl ?_
  refine v_iload_n (pc := 1) O dJ13_copyOf_2_1 rfl ?_
  refine v_aload_n (pc := 2) O dJ13_copyOf_2_2 rfl ?_
  refine w_getC (pc := 3) O rfl h_arr q551 q2396 q2395 q552 q581 rfl (Nat.le_of_ble_eq_true rfl) dJ13_copyOf_2_3 ?_
  refine v_callS (pc := 6) (nA := 3) O (jm_copy3 (xL X) Γ h_arr hE hcap hm c) q582 q583 q64 q584 (by decide +kernel) rfl rfl rfl rfl (Nat.le_of_ble_eq_true rfl) (by omega) (by omega) dJ13_copyOf_2_6 (v_kR (fun q μ h => ?_))
  exact v_aret (pc := 9) O hr (Or.inr ⟨_, rfl⟩) (by omega) (by omega) dJ13_copyOf_2_9 (Or.inr ⟨_, rfl⟩) ⟨q, rfl, h⟩
theorem va_cpy0 {cap m n : Nat} {f : Nat → Option Nat} (h1 : n ≤ cap) (h2 : n ≤ m) {j : Nat} (hj : j < n) : va_cpy f (fun _ => none) 0 0 (Nat.min cap m) j = f j := by
  have h : n ≤ Nat.min cap m := Nat.le_min.mpr ⟨h1, h2⟩
  unfold va_cpy
  rw [if_pos ⟨Nat.zero_le _, by omega⟩]
  congr 1
  omega
/-- what grow leaves -/
def Grown (Γ : Gm) (c a cap n mc : Nat) (m x : Int32) (f : Nat → Option Nat) (r : Nat) (μ0 μ1 : Mem) : Prop := ∃ (cap' : Nat) (f' : Nat → Option Nat), μ1 a = some (.inr (9, [.int m, .ref r, .int x]), c) ∧ μ1 r = some (.inl (Γ.2.1 3, cap', .inr (.inr (.inr (.inr f')))), c) ∧ (∀ j, j < n → f' j = f j) ∧ mc ≤ cap' ∧ cap' ≤ cap + cap / 2 + 10 ∧ Upd c μ0 μ1 ∧ ∀ y, isO μ0 y → isO μ1 y
set_option maxHeartbeats 4000000 in
theorem jm_grow2 (l : Launch) (Γ : Gm) {a arr cap n : Nat} {m x : Int32} {f : Nat → Option Nat} {c : Nat} {μ0 : Mem} (h_a : μ0 a = some (.inr (9, [.int m, .ref arr, .int x]), c)) (hA : AR Γ c arr cap f μ0) (hcap : cap ≤ 390) (hn : n ≤ cap) (hE : ∀ i y, i < cap → f i = some y → isO μ0 y) : MetV l Γ yJ2_grow_2 cJ2_grow_2 4 (some (.array (.object "java/lang/Object"))) 3 1 (cap + cap / 2 + 10) [.ref a, .int (nI (cap + 1))] μ0 (PR (fun r μ1 => Grown Γ c a cap n (cap + 1) m x f r μ0 μ1)) := by
  refine MetV.of (by decide +kernel) rfl ?_
  intro X sz hl hr hnm O
  subst hl
  have hU : Upd c μ0 μ0 := Upd.rf
  rcases hA with ⟨rfl, rfl⟩ | ⟨h1, h_arr⟩
  · have hi : ∀ y, isO μ0 y → isO μ0 y := fun _ h => h
    have hn0 : n = 0 := by omega
    show V X Γ _ 4 _ 0 0 μ0 0 [(0, .ref a), (1, .int 1)] []
    refine v_aload_n (pc := 0) O dJ2_grow_2_0 rfl ?_
    refine v_getf (pc := 1) O ci9 h_a 1 rfl q124 (fun _ h => h) rfl dJ2_grow_2_1 ?_
    refine w_lenE (pc := 4) O dJ2_grow_2_4 ?_
    refine v_istore_n (pc := 5) (lv' := [(2, .int 0), (0, .ref a), (1, .int 1)]) O dJ2_grow_2_5 rfl rfl ?_
    refine v_iload_n (pc := 6) O dJ2_grow_2_6 rfl ?_
    refine v_if_gt (pc := 7) (tgt := 20) O dJ2_grow_2_7 (by decide) (fun c => absurd c (by decide)) (fun _ => ?_)
    refine v_aload_n (pc := 10) O dJ2_grow_2_10 rfl ?_
    refine v_getf (pc := 11) O ci9 h_a 1 rfl q124 (fun _ h => h) rfl dJ2_grow_2_11 ?_
    refine w_getE (pc := 14) O q122 dJ2_grow_2_14 ?_
    refine v_acmp_eq (pc := 17) (tgt := 45) (rx := (some (Γ.2.2 257))) (ry := (some (Γ.2.2 257))) O dJ2_grow_2_17 (by decide) (fun _ => ?_) (fun c => absurd rfl c)
    refine v_aload_n (pc := 45) O dJ2_grow_2_45 rfl ?_
    refine v_bipush (pc := 46) O (x := 10) dJ2_grow_2_46 (by decide) ?_
    refine v_iload_n (pc := 48) O dJ2_grow_2_48 rfl ?_
    refine v_mmax (pc := 49) O q587 q270 q63 q271 rfl (Nat.le_of_ble_eq_true rfl) (by omega) (by omega) (z := 10) (by decide) dJ2_grow_2_49 ?_
    refine w_newq (pc := 52) O c 3 rfl q168 (by decide) 10 (by decide) (by decide) (by decide) (by omega) (by omega) dJ2_grow_2_52 (fun q52 μ pp => ?_)
    have h_a := pp.oth h_a
    have hi := fun y9 h9 => pp.isO (hi y9 h9)
    have h_q52 : μ q52 = some (.inl (Γ.2.1 3, 10, .inr (.inr (.inr (.inr (fun _ => none))))), c) := pp.2.1
    have hU := hU.trans (pp.upd rfl)
    refine v_dup_x1 (pc := 55) O dJ2_grow_2_55 rfl rfl ?_
    refine w_put (pc := 56) O ci9 h_a 1 rfl q124 (fun _ h => h) rfl rfl rfl rfl dJ2_grow_2_56 (fun μ pp => ?_)
    have h_q52 := pp.oth h_q52 (fun h => by cases h)
    have hi := fun y9 h9 => pp.isOr (hi y9 h9)
    have h_a : μ a = some (.inr (9, [.int m, .ref q52, .int x]), c) := pp.2.1
    have hU := hU.trans (pp.upd rfl rfl)
    exact v_aret (pc := 59) O hr (Or.inr ⟨_, rfl⟩) (by omega) (by omega) dJ2_grow_2_59 (Or.inr ⟨_, rfl⟩) ⟨q52, rfl, ⟨10, _, h_a, h_q52, fun j hj => absurd hj (by omega), by omega, by omega, hU, hi⟩⟩
  · have hi : ∀ y, isO μ0 y → isO μ0 y := fun _ h => h
    have hx1 := nmax_le (g := 1) (p := cap / 2) (b := cap / 2 + 1) (by omega) (by omega)
    have hx2 := nmax_ge (g := 1) (p := cap / 2)
    have hx3 : cap + Nat.max 1 (cap / 2) ≤ cap + cap / 2 + 10 := by omega
    show V X Γ _ 4 _ 0 0 μ0 0 [(0, .ref a), (1, .int (nI (cap + 1)))] []
    refine v_aload_n (pc := 0) O dJ2_grow_2_0 rfl ?_
    refine v_getf (pc := 1) O ci9 h_a 1 rfl q124 (fun _ h => h) rfl dJ2_grow_2_1 ?_
    refine v_alen (pc := 4) O 3 rfl h_arr (v := nI cap) rfl dJ2_grow_2_4 ?_
    refine v_istore_n (pc := 5) (lv' := [(2, .int (nI cap)), (0, .ref a), (1, .int (nI (cap + 1)))]) O dJ2_grow_2_5 rfl rfl ?_
    refine v_iload_n (pc := 6) O dJ2_grow_2_6 rfl ?_
    refine v_if_gt (pc := 7) (tgt := 20) O dJ2_grow_2_7 (by decide) (fun _ => ?_) (fun c => absurd (show 0 < nI cap from nI_lt (a := 0) (by omega) (by omega)) c)
    refine v_iload_n (pc := 20) O dJ2_grow_2_20 rfl ?_
    refine v_iload_n (pc := 21) O dJ2_grow_2_21 rfl ?_
    refine v_iload_n (pc := 22) O dJ2_grow_2_22 rfl ?_
    refine w_isub (pc := 23) O 1 (by rw [nI_sub (by omega) (by omega), show cap + 1 - cap = 1 by omega]; rfl) dJ2_grow_2_23 ?_
    refine v_iload_n (pc := 24) O dJ2_grow_2_24 rfl ?_
    refine v_iconst (pc := 25) O (x := 1) dJ2_grow_2_25 (by decide) ?_
    refine w_ishr (pc := 26) O (nI (cap / 2)) (nI_half (by omega)) dJ2_grow_2_26 ?_
    refine v_callS (pc := 27) (nA := 3) O (jm_newLength (xL X) Γ (o := cap) (g := 1) (p := cap / 2) (by omega) (by omega) (by omega) (by omega) _) q547 q267 q62 q268 (by decide +kernel) rfl rfl rfl rfl (Nat.le_of_ble_eq_true rfl) (by omega) (by omega) dJ2_grow_2_27 (v_kI (fun x μ9 h => ?_))
    obtain ⟨rfl, rfl⟩ := h
    refine v_istore_n (pc := 30) (lv' := [(3, .int (nI (cap + Nat.max 1 (cap / 2)))), (2, .int (nI cap)), (0, .ref a), (1, .int (nI (cap + 1)))]) O dJ2_grow_2_30 rfl rfl ?_
    refine v_aload_n (pc := 31) O dJ2_grow_2_31 rfl ?_
    refine v_aload_n (pc := 32) O dJ2_grow_2_32 rfl ?_
    refine v_getf (pc := 33) O ci9 h_a 1 rfl q124 (fun _ h => h) rfl dJ2_grow_2_33 ?_
    refine v_iload_n (pc := 36) O dJ2_grow_2_36 rfl ?_
    refine v_callS (pc := 37) (nA := 2) O (jm_copy (xL X) Γ (m := cap + Nat.max 1 (cap / 2)) h_arr hE (by omega) (by omega) c) q548 q549 q64 q550 (by decide +kernel) rfl rfl rfl rfl (Nat.le_of_ble_eq_true rfl) (by omega) (by omega) dJ2_grow_2_37 (v_kR (fun q μ h => ?_))
    have h_a := h.oth h_a
    have h_arr := h.oth h_arr
    have hi := fun y9 h9 => h.isO (hi y9 h9)
    have h_q : μ q = some (.inl (Γ.2.1 3, (cap + Nat.max 1 (cap / 2)), .inr (.inr (.inr (.inr (va_cpy f (fun _ => none) 0 0 (Nat.min cap (cap + Nat.max 1 (cap / 2)))))))), c) := h.2.1
    have hU := hU.trans (h.upd rfl)
    refine v_dup_x1 (pc := 40) O dJ2_grow_2_40 rfl rfl ?_
    refine w_put (pc := 41) O ci9 h_a 1 rfl q124 (fun _ h => h) rfl rfl rfl rfl dJ2_grow_2_41 (fun μ pp => ?_)
    have h_arr := pp.oth h_arr (fun h => by cases h)
    have h_q := pp.oth h_q (fun h => by cases h)
    have hi := fun y9 h9 => pp.isOr (hi y9 h9)
    have h_a : μ a = some (.inr (9, [.int m, .ref q, .int x]), c) := pp.2.1
    have hU := hU.trans (pp.upd rfl rfl)
    exact v_aret (pc := 44) O hr (Or.inr ⟨_, rfl⟩) (by omega) (by omega) dJ2_grow_2_44 (Or.inr ⟨_, rfl⟩) ⟨q, rfl, ⟨cap + Nat.max 1 (cap / 2), _, h_a, h_q, fun j hj => va_cpy0 hn (by omega) hj, by omega, by omega, hU, hi⟩⟩
set_option maxHeartbeats 4000000 in
theorem jm_grow (l : Launch) (Γ : Gm) {a arr cap n : Nat} {m : Int32} {f : Nat → Option Nat} {c : Nat} {μ0 : Mem} (h_a : μ0 a = some (.inr (9, [.int m, .ref arr, .int (nI cap)]), c)) (hA : AR Γ c arr cap f μ0) (hcap : cap ≤ 390) (hn : n ≤ cap) (hE : ∀ i y, i < cap → f i = some y → isO μ0 y) : MetV l Γ yJ2_grow cJ2_grow 1 (some (.array (.object "java/lang/Object"))) 4 1 (cap + cap / 2 + 10) [.ref a] μ0 (PR (fun r μ1 => Grown Γ c a cap n (cap + 1) m (nI cap) f r μ0 μ1)) := by
  refine MetV.of (by decide +kernel) rfl ?_
  intro X sz hl hr hnm O
  subst hl
  have hU : Upd c μ0 μ0 := Upd.rf
  show V X Γ _ 1 _ 0 0 μ0 0 [(0, .ref a)] []
  refine v_aload_n (pc := 0) O dJ2_grow_0 rfl ?_
  refine v_aload_n (pc := 1) O dJ2_grow_1 rfl ?_
  refine v_getf (pc := 2) O ci9 h_a 2 rfl q127 (fun _ h => h) rfl dJ2_grow_2 ?_
  refine v_iconst (pc := 5) O (x := 1) dJ2_grow_5 (by decide) ?_
  refine w_iadd (pc := 6) O (nI (cap + 1)) (nI_1 _) dJ2_grow_6 ?_
  refine v_callV (pc := 7) (nA := 1) O (jm_grow2 (xL X) Γ h_a hA hcap hn hE) h_a rfl q543 q545 qs3 q51 q546 (by decide +kernel) rfl rfl rfl rfl (Nat.le_of_ble_eq_true rfl) (by omega) (by omega) dJ2_grow_7 (v_kR (fun r μ h => ?_))
  exact v_aret (pc := 10) O hr (Or.inr ⟨_, rfl⟩) (by omega) (by omega) dJ2_grow_10 (Or.inr ⟨_, rfl⟩) ⟨r, rfl, h⟩
theorem al_push {L : List Nat} {f : Nat → Option Nat} {y : Nat} (h : ∀ j, j < L.length → f j = L[j]?) : ∀ j, j < (L ++ [y]).length → va_up f L.length (some y) j = (L ++ [y])[j]? := fun j hj => by
  rw [List.length_append] at hj
  by_cases e : j = L.length
  · subst e
    rw [va_up_self]
    simp
  · rw [va_up_ne _ _ e, List.getElem?_append_left (by simp at hj; omega)]
    exact h j (by simp at hj; omega)
theorem al_pos {L : List Nat} {cap : Nat} {f : Nat → Option Nat} (hL : L.length ≤ cap) (hf : ∀ j, j < L.length → f j = L[j]?) : True := trivial
/-- a list's post: what it holds now, what else stands -/
def ALP (Γ : Gm) (c a : Nat) (m : Int32) (L : List Nat) (μ0 μ1 : Mem) : Prop := ALm Γ c a m L μ1 ∧ Upd c μ0 μ1 ∧ ∀ y, isO μ0 y → isO μ1 y
theorem ALP.mk2 {Γ : Gm} {c a arr cap : Nat} {m x : Int32} {L : List Nat} {f : Nat → Option Nat} {μ0 μ1 : Mem} (h_a : μ1 a = some (.inr (9, [.int m, .ref arr, .int x]), c)) (hx : x = nI L.length) (h_r : μ1 arr = some (.inl (Γ.2.1 3, cap, .inr (.inr (.inr (.inr f)))), c)) (h1 : 1 ≤ cap) (h2 : L.length ≤ cap) (h3 : cap ≤ 600) (hf : ∀ j, j < L.length → f j = L[j]?) (hU : Upd c μ0 μ1) (hi : ∀ y, isO μ0 y → isO μ1 y) : ALP Γ c a m L μ0 μ1 :=
  ⟨⟨arr, cap, f, by rw [h_a, hx], Or.inr ⟨h1, h_r⟩, h2, h3, hf⟩, hU, hi⟩
theorem isO_f {L : List Nat} {f : Nat → Option Nat} {μ : Mem} (hf : ∀ j, j < L.length → f j = L[j]?) (hE : ∀ y ∈ L, isO μ y) {i y : Nat} (hi : i < L.length) (h : f i = some y) : isO μ y := hE y (List.mem_of_getElem? ((hf i hi).symm.trans h))
set_option maxHeartbeats 4000000 in
theorem jm_add2 (l : Launch) (Γ : Gm) {a arr cap y : Nat} {m : Int32} {L : List Nat} {f : Nat → Option Nat} {c : Nat} {μ0 : Mem} (h_a : μ0 a = some (.inr (9, [.int m, .ref arr, .int (nI L.length)]), c)) (hA : AR Γ c arr cap f μ0) (hL : L.length ≤ cap) (hcap : cap ≤ 600) (hlen : L.length ≤ 390) (hf : ∀ j, j < L.length → f j = L[j]?) (hE : ∀ y ∈ L, isO μ0 y) (hy : isO μ0 y) : MetV l Γ yJ2_add_2 cJ2_add_2 4 none 5 1 (L.length + L.length / 2 + 10) [.ref a, .ref y, .ref arr, .int (nI L.length)] μ0 (PV (fun μ1 => ALP Γ c a m (L ++ [y]) μ0 μ1)) := by
  refine MetV.of (by decide +kernel) rfl ?_
  intro X sz hl hr hnm O
  subst hl
  have hU : Upd c μ0 μ0 := Upd.rf
  rcases hA with ⟨rfl, rfl⟩ | ⟨h1, h_arr⟩
  · have hi : ∀ y, isO μ0 y → isO μ0 y := fun _ h => h
    have hn0 : L.length = 0 := by omega
    have hA : AR Γ c (Γ.2.2 257) 0 f μ0 := Or.inl ⟨rfl, rfl⟩
    show V X Γ _ 4 _ 0 0 μ0 0 [(0, .ref a), (1, .ref y), (2, .ref (Γ.2.2 257)), (3, .int (nI L.length))] []
    refine v_iload_n (pc := 0) O dJ2_add_2_0 rfl ?_
    refine v_aload_n (pc := 1) O dJ2_add_2_1 rfl ?_
    refine w_lenE (pc := 2) O dJ2_add_2_2 ?_
    refine v_icmp_ne (pc := 3) (tgt := 11) O dJ2_add_2_3 (by decide) (fun c => absurd (by rw [hn0]; rfl) c) (fun _ => ?_)
    refine v_aload_n (pc := 6) O dJ2_add_2_6 rfl ?_
    refine v_callV (pc := 7) (nA := 0) O (jm_grow (xL X) Γ (n := L.length) (cap := 0) (by rw [← hn0]; exact h_a) hA (by omega) (by omega) (fun i y hi0 => absurd hi0 (by omega))) h_a rfl q539 q541 qs2 q51 q542 (by decide +kernel) rfl rfl rfl rfl (Nat.le_of_ble_eq_true rfl) (by omega) (by omega) dJ2_add_2_7 (v_kR (fun r μ h => ?_))
    rw [show nI 0 = nI L.length by rw [hn0]] at h
    obtain ⟨cap', f', h_a, h_r, hf', hc1, hc2, hU2, hi2⟩ := h
    have hU := hU.trans hU2
    have hy := hi2 _ hy
    have hi : ∀ y, isO μ0 y → isO μ y := fun z hz => hi2 z (hi z hz)
    refine v_astore_n (pc := 10) (lv' := [(2, .ref r), (0, .ref a), (1, .ref y), (3, .int (nI L.length))]) O dJ2_add_2_10 rfl rfl ?_
    refine v_aload_n (pc := 11) O dJ2_add_2_11 rfl ?_
    refine v_iload_n (pc := 12) O dJ2_add_2_12 rfl ?_
    refine v_aload_n (pc := 13) O dJ2_add_2_13 rfl ?_
    refine w_astq (pc := 14) O h_r hy (vp_in_nI (by omega) (by omega)) dJ2_add_2_14 (fun μ pp => ?_)
    rw [nI_clamp (show L.length < 2 ^ 31 by omega)] at pp
    have h_a := pp.oth h_a (fun h => by cases h)
    have hi := fun y9 h9 => pp.isOl (hi y9 h9)
    have hy := pp.isOl hy
    have h_r : μ r = some (.inl (Γ.2.1 3, cap', .inr (.inr (.inr (.inr (va_up f' L.length (some y)))))), c) := pp.2.1
    have hU := hU.trans (pp.upd rfl rfl)
    refine v_aload_n (pc := 15) O dJ2_add_2_15 rfl ?_
    refine v_iload_n (pc := 16) O dJ2_add_2_16 rfl ?_
    refine v_iconst (pc := 17) O (x := 1) dJ2_add_2_17 (by decide) ?_
    refine w_iadd (pc := 18) O (nI (L.length + 1)) (nI_1 _) dJ2_add_2_18 ?_
    refine w_put (pc := 19) O ci9 h_a 2 rfl q127 (fun _ h => h) rfl rfl rfl rfl dJ2_add_2_19 (fun μ pp => ?_)
    have h_r := pp.oth h_r (fun h => by cases h)
    have hi := fun y9 h9 => pp.isOr (hi y9 h9)
    have hy := pp.isOr hy
    have h_a : μ a = some (.inr (9, [.int m, .ref r, .int (nI (L.length + 1))]), c) := pp.2.1
    have hU := hU.trans (pp.upd rfl rfl)
    exact v_vret (pc := 22) O hr (by omega) (by omega) dJ2_add_2_22 ⟨rfl, ALP.mk2 h_a (by rw [List.length_append]; rfl) h_r (by omega) (by rw [List.length_append]; show L.length + 1 ≤ _; omega) (by omega) (al_push (fun j hj => (hf' j hj).trans (hf j hj))) hU hi⟩
  · have hi : ∀ y, isO μ0 y → isO μ0 y := fun _ h => h
    have hA : AR Γ c arr cap f μ0 := Or.inr ⟨h1, h_arr⟩
    show V X Γ _ 4 _ 0 0 μ0 0 [(0, .ref a), (1, .ref y), (2, .ref arr), (3, .int (nI L.length))] []
    refine v_iload_n (pc := 0) O dJ2_add_2_0 rfl ?_
    refine v_aload_n (pc := 1) O dJ2_add_2_1 rfl ?_
    refine v_alen (pc := 2) O 3 rfl h_arr (v := nI cap) rfl dJ2_add_2_2 ?_
    refine v_icmp_ne (pc := 3) (tgt := 11) O dJ2_add_2_3 (by decide) (fun c_3 => ?_) (fun c_3 => ?_)
    · have hcL : L.length < cap := by have : ¬ L.length = cap := (fun z => c_3 (by rw [z])); omega
      refine v_aload_n (pc := 11) O dJ2_add_2_11 rfl ?_
      refine v_iload_n (pc := 12) O dJ2_add_2_12 rfl ?_
      refine v_aload_n (pc := 13) O dJ2_add_2_13 rfl ?_
      refine w_astq (pc := 14) O h_arr hy (vp_in_nI (by omega) (by omega)) dJ2_add_2_14 (fun μ pp => ?_)
      rw [nI_clamp (show L.length < 2 ^ 31 by omega)] at pp
      have h_a := pp.oth h_a (fun h => by cases h)
      have hi := fun y9 h9 => pp.isOl (hi y9 h9)
      have hy := pp.isOl hy
      have h_arr : μ arr = some (.inl (Γ.2.1 3, cap, .inr (.inr (.inr (.inr (va_up f L.length (some y)))))), c) := pp.2.1
      have hU := hU.trans (pp.upd rfl rfl)
      refine v_aload_n (pc := 15) O dJ2_add_2_15 rfl ?_
      refine v_iload_n (pc := 16) O dJ2_add_2_16 rfl ?_
      refine v_iconst (pc := 17) O (x := 1) dJ2_add_2_17 (by decide) ?_
      refine w_iadd (pc := 18) O (nI (L.length + 1)) (nI_1 _) dJ2_add_2_18 ?_
      refine w_put (pc := 19) O ci9 h_a 2 rfl q127 (fun _ h => h) rfl rfl rfl rfl dJ2_add_2_19 (fun μ pp => ?_)
      have h_arr := pp.oth h_arr (fun h => by cases h)
      have hi := fun y9 h9 => pp.isOr (hi y9 h9)
      have hy := pp.isOr hy
      have h_a : μ a = some (.inr (9, [.int m, .ref arr, .int (nI (L.length + 1))]), c) := pp.2.1
      have hU := hU.trans (pp.upd rfl rfl)
      exact v_vret (pc := 22) O hr (by omega) (by omega) dJ2_add_2_22 ⟨rfl, ALP.mk2 h_a (by rw [List.length_append]; rfl) h_arr (by omega) (by rw [List.length_append]; show L.length + 1 ≤ _; omega) (by omega) (al_push hf) hU hi⟩
    · have hcL : L.length = cap := (nI_eq (by omega) (by omega)).mp c_3
      refine v_aload_n (pc := 6) O dJ2_add_2_6 rfl ?_
      refine v_callV (pc := 7) (nA := 0) O (jm_grow (xL X) Γ (n := L.length) (cap := cap) (by rw [← hcL]; exact h_a) hA (by omega) (by omega) (fun i y hi0 hh => isO_f hf hE (by omega) hh)) h_a rfl q539 q541 qs2 q51 q542 (by decide +kernel) rfl rfl rfl rfl (Nat.le_of_ble_eq_true rfl) (by omega) (by omega) dJ2_add_2_7 (v_kR (fun r μ h => ?_))
      rw [← hcL] at h
      obtain ⟨cap', f', h_a, h_r, hf', hc1, hc2, hU2, hi2⟩ := h
      have hU := hU.trans hU2
      have hy := hi2 _ hy
      have hi : ∀ y, isO μ0 y → isO μ y := fun z hz => hi2 z (hi z hz)
      refine v_astore_n (pc := 10) (lv' := [(2, .ref r), (0, .ref a), (1, .ref y), (3, .int (nI L.length))]) O dJ2_add_2_10 rfl rfl ?_
      refine v_aload_n (pc := 11) O dJ2_add_2_11 rfl ?_
      refine v_iload_n (pc := 12) O dJ2_add_2_12 rfl ?_
      refine v_aload_n (pc := 13) O dJ2_add_2_13 rfl ?_
      refine w_astq (pc := 14) O h_r hy (vp_in_nI (by omega) (by omega)) dJ2_add_2_14 (fun μ pp => ?_)
      rw [nI_clamp (show L.length < 2 ^ 31 by omega)] at pp
      have h_a := pp.oth h_a (fun h => by cases h)
      have hi := fun y9 h9 => pp.isOl (hi y9 h9)
      have hy := pp.isOl hy
      have h_r : μ r = some (.inl (Γ.2.1 3, cap', .inr (.inr (.inr (.inr (va_up f' L.length (some y)))))), c) := pp.2.1
      have hU := hU.trans (pp.upd rfl rfl)
      refine v_aload_n (pc := 15) O dJ2_add_2_15 rfl ?_
      refine v_iload_n (pc := 16) O dJ2_add_2_16 rfl ?_
      refine v_iconst (pc := 17) O (x := 1) dJ2_add_2_17 (by decide) ?_
      refine w_iadd (pc := 18) O (nI (L.length + 1)) (nI_1 _) dJ2_add_2_18 ?_
      refine w_put (pc := 19) O ci9 h_a 2 rfl q127 (fun _ h => h) rfl rfl rfl rfl dJ2_add_2_19 (fun μ pp => ?_)
      have h_r := pp.oth h_r (fun h => by cases h)
      have hi := fun y9 h9 => pp.isOr (hi y9 h9)
      have hy := pp.isOr hy
      have h_a : μ a = some (.inr (9, [.int m, .ref r, .int (nI (L.length + 1))]), c) := pp.2.1
      have hU := hU.trans (pp.upd rfl rfl)
      exact v_vret (pc := 22) O hr (by omega) (by omega) dJ2_add_2_22 ⟨rfl, ALP.mk2 h_a (by rw [List.length_append]; rfl) h_r (by omega) (by rw [List.length_append]; show L.length + 1 ≤ _; omega) (by omega) (al_push (fun j hj => (hf' j hj).trans (hf j hj))) hU hi⟩
theorem ALP.tr {Γ : Gm} {c a : Nat} {m : Int32} {L : List Nat} {μ0 μ1 μ2 : Mem} (hU : Upd c μ0 μ1) (hi : ∀ y, isO μ0 y → isO μ1 y) (h : ALP Γ c a m L μ1 μ2) : ALP Γ c a m L μ0 μ2 := ⟨h.1, hU.trans h.2.1, fun y hy => h.2.2 y (hi y hy)⟩
theorem AR.put {Γ : Gm} {c arr cap a t : Nat} {f : Nat → Option Nat} {μ μ' : Mem} {x x' : Nat × List Value} (h : AR Γ c arr cap f μ) (pp : Put a (.inr x, t) (.inr x', t) μ μ') : AR Γ c arr cap f μ' := h.imp id (fun h => ⟨h.1, pp.oth h.2 (fun z => by cases z)⟩)
set_option maxHeartbeats 4000000 in
theorem jm_add (l : Launch) (Γ : Gm) {a y : Nat} {m : Int32} {L : List Nat} {c : Nat} {μ0 : Mem} (hL : ALm Γ c a m L μ0) (hlen : L.length ≤ 390) (hE : ∀ y ∈ L, isO μ0 y) (hy : isO μ0 y) : MetV l Γ yJ2_add cJ2_add 2 (some .boolean) 6 1 (L.length + L.length / 2 + 10) [.ref a, .ref y] μ0 (PI (fun r μ1 => r = 1 ∧ ALP Γ c a (m + 1) (L ++ [y]) μ0 μ1)) := by
  refine MetV.of (by decide +kernel) rfl ?_
  intro X sz hl hr hnm O
  subst hl
  have hU : Upd c μ0 μ0 := Upd.rf
  obtain ⟨arr, cap, f, h_a, hA, hc1, hc2, hf⟩ := hL
  have hi : ∀ y, isO μ0 y → isO μ0 y := fun _ h => h
  have hE2 : ∀ y, y ∈ L → isO μ0 y := hE
  show V X Γ _ 2 _ 0 0 μ0 0 [(0, .ref a), (1, .ref y)] []
  refine v_aload_n (pc := 0) O dJ2_add_0 rfl ?_
  refine v_dup (pc := 1) O dJ2_add_1 rfl ?_
  refine v_getf (pc := 2) O ci9 h_a 0 rfl q131 (fun x9 h9 => u_same (O.hts _ q130) x9 h9) rfl dJ2_add_2 ?_
  refine v_iconst (pc := 5) O (x := 1) dJ2_add_5 (by decide) ?_
  refine v_iadd (pc := 6) O dJ2_add_6 ?_
  refine w_put (pc := 7) O ci9 h_a 0 rfl q131 (fun x9 h9 => u_same (O.hts _ q130) x9 h9) rfl rfl rfl rfl dJ2_add_7 (fun μ pp => ?_)
  have hA := hA.put pp
  have hi := fun y9 h9 => pp.isOr (hi y9 h9)
  have hy := pp.isOr hy
  have hE2 := fun y9 h9 => pp.isOr (hE2 y9 h9)
  have h_a : μ a = some (.inr (9, [.int (m + 1), .ref arr, .int (nI L.length)]), c) := pp.2.1
  have hU := hU.trans (pp.upd rfl rfl)
  refine v_aload_n (pc := 10) O dJ2_add_10 rfl ?_
  refine v_aload_n (pc := 11) O dJ2_add_11 rfl ?_
  refine v_aload_n (pc := 12) O dJ2_add_12 rfl ?_
  refine v_getf (pc := 13) O ci9 h_a 1 rfl q124 (fun _ h => h) rfl dJ2_add_13 ?_
  refine v_aload_n (pc := 16) O dJ2_add_16 rfl ?_
  refine v_getf (pc := 17) O ci9 h_a 2 rfl q127 (fun _ h => h) rfl dJ2_add_17 ?_
  refine v_callV (pc := 20) (nA := 3) O (jm_add2 (xL X) Γ h_a hA hc1 hc2 hlen hf hE2 hy) h_a rfl q535 q537 qs1 q51 q538 (by decide +kernel) rfl rfl rfl rfl (Nat.le_of_ble_eq_true rfl) (by omega) (by omega) dJ2_add_20 (v_kV (fun μ h => ?_))
  refine v_iconst (pc := 23) O (x := 1) dJ2_add_23 (by decide) ?_
  exact v_zret (pc := 24) O hr (by omega) (by omega) dJ2_add_24 rfl ⟨_, rfl, ⟨rfl, ALP.tr hU hi h⟩⟩
set_option maxHeartbeats 4000000 in
theorem jm_elt (l : Launch) (Γ : Gm) {a arr cap i v : Nat} {m x : Int32} {f : Nat → Option Nat} {c : Nat} {μ0 : Mem} (h_a : μ0 a = some (.inr (9, [.int m, .ref arr, .int x]), c)) (h_arr : μ0 arr = some (.inl (Γ.2.1 3, cap, .inr (.inr (.inr (.inr f)))), c)) (hi : i < cap) (hcap : cap ≤ 600) (hv : f i = some v) : MetV l Γ yJ2_elementData cJ2_elementData 2 (some (.object "java/lang/Object")) 1 0 0 [.ref a, .int (nI i)] μ0 (PR (fun r μ1 => r = v ∧ μ0 = μ1)) := by
  refine MetV.of (by decide +kernel) rfl ?_
  intro X sz hl hr hnm O
  subst hl
  show V X Γ _ 2 _ 0 0 μ0 0 [(0, .ref a), (1, .int (nI i))] []
  refine v_aload_n (pc := 0) O dJ2_elementData_0 rfl ?_
  refine v_getf (pc := 1) O ci9 h_a 1 rfl q124 (fun _ h => h) rfl dJ2_elementData_1 ?_
  refine v_iload_n (pc := 4) O dJ2_elementData_4 rfl ?_
  refine w_aldq (pc := 5) O 3 rfl h_arr (vp_in_nI hi (by omega)) (v := .ref v) (by rw [nI_clamp (show i < 2 ^ 31 by omega), hv]; rfl) dJ2_elementData_5 ?_
  exact v_aret (pc := 6) O hr (Or.inl ⟨_, rfl⟩) (by omega) (by omega) dJ2_elementData_6 (Or.inr ⟨_, rfl⟩) ⟨v, rfl, ⟨rfl, rfl⟩⟩
theorem ALm.real {Γ : Gm} {c a i v : Nat} {m : Int32} {L : List Nat} {μ : Mem} (hL : ALm Γ c a m L μ) (hv : L[i]? = some v) : ∃ (arr cap : Nat) (f : Nat → Option Nat), μ a = some (.inr (9, [.int m, .ref arr, .int (nI L.length)]), c) ∧ μ arr = some (.inl (Γ.2.1 3, cap, .inr (.inr (.inr (.inr f)))), c) ∧ i < L.length ∧ L.length ≤ cap ∧ cap ≤ 600 ∧ (∀ j, j < L.length → f j = L[j]?) ∧ f i = some v ∧ 1 ≤ cap := by
  obtain ⟨arr, cap, f, h1, h2, h3, h4, h5⟩ := hL
  have hi : i < L.length := (List.getElem?_eq_some_iff.mp hv).1
  rcases h2 with ⟨-, e⟩ | ⟨e, h2⟩
  · omega
  · exact ⟨arr, cap, f, h1, h2, hi, h3, h4, h5, (h5 i hi).trans hv, e⟩
set_option maxHeartbeats 4000000 in
theorem jm_get (l : Launch) (Γ : Gm) {a i v : Nat} {m : Int32} {L : List Nat} {c : Nat} {μ0 : Mem} (hL : ALm Γ c a m L μ0) (hv : L[i]? = some v) : MetV l Γ yJ2_get cJ2_get 2 (some (.object "java/lang/Object")) 3 0 0 [.ref a, .int (nI i)] μ0 (PR (fun r μ1 => r = v ∧ μ0 = μ1)) := by
  refine MetV.of (by decide +kernel) rfl ?_
  intro X sz hl hr hnm O
  subst hl
  obtain ⟨arr, cap, f, h_a, h_arr, hi, hc1, hc2, hf, hfv, hc3⟩ := hL.real hv
  show V X Γ _ 2 _ 0 0 μ0 0 [(0, .ref a), (1, .int (nI i))] []
  refine v_iload_n (pc := 0) O dJ2_get_0 rfl ?_
  refine v_aload_n (pc := 1) O dJ2_get_1 rfl ?_
  refine v_getf (pc := 2) O ci9 h_a 2 rfl q127 (fun _ h => h) rfl dJ2_get_2 ?_
  refine v_callS (pc := 5) (nA := 2) O (jm_chk (xL X) Γ hi (by omega) _) q778 q779 q75 q780 (by decide +kernel) rfl rfl rfl rfl (Nat.le_of_ble_eq_true rfl) (by omega) (by omega) dJ2_get_5 (v_kI (fun x μ9 h => ?_))
  obtain ⟨rfl, rfl⟩ := h
  refine v_pop (pc := 8) O dJ2_get_8 rfl ?_
  refine v_aload_n (pc := 9) O dJ2_get_9 rfl ?_
  refine v_iload_n (pc := 10) O dJ2_get_10 rfl ?_
  refine v_callV (pc := 11) (nA := 1) O (jm_elt (xL X) Γ h_a h_arr (Nat.lt_of_lt_of_le hi hc1) hc2 hfv) h_a rfl q784 q785 q786 q51 q787 (by decide +kernel) rfl rfl rfl rfl (Nat.le_of_ble_eq_true rfl) (by omega) (by omega) dJ2_get_11 (v_kR (fun r μ9 h => ?_))
  obtain ⟨rfl, rfl⟩ := h
  exact v_aret (pc := 14) O hr (Or.inl ⟨_, rfl⟩) (by omega) (by omega) dJ2_get_14 (Or.inr ⟨_, rfl⟩) ⟨r, rfl, ⟨rfl, rfl⟩⟩
set_option maxHeartbeats 4000000 in
theorem jm_size (l : Launch) (Γ : Gm) {a : Nat} {m : Int32} {L : List Nat} {c : Nat} {μ0 : Mem} (hL : ALm Γ c a m L μ0) : MetV l Γ yJ2_size cJ2_size 1 (some .int) 1 0 0 [.ref a] μ0 (PI (fun r μ1 => r = nI L.length ∧ μ0 = μ1)) := by
  refine MetV.of (by decide +kernel) rfl ?_
  intro X sz hl hr hnm O
  subst hl
  obtain ⟨arr, cap, f, h_a, hA, hc1, hc2, hf⟩ := hL
  show V X Γ _ 1 _ 0 0 μ0 0 [(0, .ref a)] []
  refine v_aload_n (pc := 0) O dJ2_size_0 rfl ?_
  refine v_getf (pc := 1) O ci9 h_a 2 rfl q127 (fun _ h => h) rfl dJ2_size_1 ?_
  exact v_iret (pc := 4) O hr (by omega) (by omega) dJ2_size_4 ⟨_, rfl, ⟨rfl, rfl⟩⟩
set_option maxHeartbeats 4000000 in
theorem jm_isEmpty (l : Launch) (Γ : Gm) {a : Nat} {m : Int32} {L : List Nat} {c : Nat} {μ0 : Mem} (hL : ALm Γ c a m L μ0) : MetV l Γ yJ2_isEmpty cJ2_isEmpty 1 (some .boolean) 1 0 0 [.ref a] μ0 (PI (fun r μ1 => r = b2i (decide (L.length = 0)) ∧ μ0 = μ1)) := by
  refine MetV.of (by decide +kernel) rfl ?_
  intro X sz hl hr hnm O
  subst hl
  obtain ⟨arr, cap, f, h_a, hA, hc1, hc2, hf⟩ := hL
  show V X Γ _ 1 _ 0 0 μ0 0 [(0, .ref a)] []
  refine v_aload_n (pc := 0) O dJ2_isEmpty_0 rfl ?_
  refine v_getf (pc := 1) O ci9 h_a 2 rfl q127 (fun _ h => h) rfl dJ2_isEmpty_1 ?_
  refine v_if_ne (pc := 4) (tgt := 11) O dJ2_isEmpty_4 (by decide) (fun c_4 => ?_) (fun c_4 => ?_)
  · have hn : ¬ L.length = 0 := fun z => c_4 (by rw [z]; rfl)
    refine v_iconst (pc := 11) O (x := 0) dJ2_isEmpty_11 (by decide) ?_
    exact v_zret (pc := 12) O hr (by omega) (by omega) dJ2_isEmpty_12 rfl ⟨_, rfl, ⟨by simp [hn, b2i], rfl⟩⟩
  · have hn : L.length = 0 := (nI_eq (b := 0) (by omega) (by omega)).mp c_4
    refine v_iconst (pc := 7) O (x := 1) dJ2_isEmpty_7 (by decide) ?_
    refine v_goto (pc := 8) O (tgt := 12) dJ2_isEmpty_8 (by decide) ?_
    exact v_zret (pc := 12) O hr (by omega) (by omega) dJ2_isEmpty_12 rfl ⟨_, rfl, ⟨by simp [hn, b2i], rfl⟩⟩
theorem Put.trans {μ μ1 μ2 : Mem} {a : Nat} {e e1 e2 : va_E × Nat} (h : Put a e e1 μ μ1) (h2 : Put a e1 e2 μ1 μ2) : Put a e e2 μ μ2 := ⟨h.1, h2.2.1, fun b hb => (h2.2.2 b hb).trans (h.2.2 b hb)⟩
def insL (L : List Nat) (i y : Nat) : List Nat := L.take i ++ y :: L.drop i
theorem insL_len {L : List Nat} {i y : Nat} (h : i ≤ L.length) : (insL L i y).length = L.length + 1 := by
  unfold insL
  simp
  omega
theorem al_ins {L : List Nat} {f : Nat → Option Nat} {i y : Nat} (hi : i ≤ L.length) (hf : ∀ j, j < L.length → f j = L[j]?) : ∀ j, j < (insL L i y).length → va_up (va_cpy f f i (i + 1) (L.length - i)) i (some y) j = (insL L i y)[j]? := fun j hj => by
  rw [insL_len hi] at hj
  unfold insL
  by_cases e : j = i
  · subst e
    rw [va_up_self, List.getElem?_append_right (by simp; omega)]
    simp [Nat.min_eq_left hi]
  · rw [va_up_ne _ _ e]
    by_cases c : j < i
    · rw [List.getElem?_append_left (by simp; omega)]
      unfold va_cpy
      rw [if_neg (by omega), hf j (by omega)]
      simp [c]
    · rw [List.getElem?_append_right (by simp; omega)]
      unfold va_cpy
      rw [if_pos (by omega)]
      simp only [List.length_take, Nat.min_eq_left hi]
      obtain ⟨d, rfl⟩ : ∃ d, j = i + 1 + d := ⟨j - i - 1, by omega⟩
      rw [show i + 1 + d - i = d + 1 by omega, List.getElem?_cons_succ, List.getElem?_drop, show i + (i + 1 + d - (i + 1)) = i + d by omega]
      exact hf _ (by omega)
theorem al_del {L : List Nat} {f : Nat → Option Nat} {i : Nat} (hi : i < L.length) (hf : ∀ j, j < L.length → f j = L[j]?) : ∀ j, j < (L.eraseIdx i).length → va_up (va_cpy f f (i + 1) i (L.length - 1 - i)) (L.length - 1) none j = (L.eraseIdx i)[j]? := fun j hj => by
  rw [List.length_eraseIdx_of_lt hi] at hj
  rw [va_up_ne _ _ (by omega)]
  unfold va_cpy
  by_cases c : j < i
  · rw [if_neg (by omega), List.getElem?_eraseIdx_of_lt c]
    exact hf j (by omega)
  · rw [if_pos (by omega), List.getElem?_eraseIdx_of_ge (by omega), show i + 1 + (j - i) = j + 1 by omega]
    exact hf _ (by omega)
theorem va_cpy_0 {f : Nat → Option Nat} {i d : Nat} : va_cpy f f i d 0 = f := by
  funext j
  unfold va_cpy
  rw [if_neg (by omega)]
set_option maxHeartbeats 4000000 in
theorem jm_rcfa (l : Launch) (Γ : Gm) {a i n arr : Nat} {m : Int32} {c : Nat} {μ0 : Mem} (h_a : μ0 a = some (.inr (9, [.int m, .ref arr, .int (nI n)]), c)) (hi : i ≤ n) (hn : n ≤ 600) : MetV l Γ yJ2_rangeCheckForAdd cJ2_rangeCheckForAdd 2 none 1 0 0 [.ref a, .int (nI i)] μ0 (PV (fun μ1 => μ0 = μ1)) := by
  refine MetV.of (by decide +kernel) rfl ?_
  intro X sz hl hr hnm O
  subst hl
  show V X Γ _ 2 _ 0 0 μ0 0 [(0, .ref a), (1, .int (nI i))] []
  refine v_iload_n (pc := 0) O dJ2_rangeCheckForAdd_0 rfl ?_
  refine v_aload_n (pc := 1) O dJ2_rangeCheckForAdd_1 rfl ?_
  refine v_getf (pc := 2) O ci9 h_a 2 rfl q127 (fun _ h => h) rfl dJ2_rangeCheckForAdd_2 ?_
  refine v_icmp_gt (pc := 5) (tgt := 12) O dJ2_rangeCheckForAdd_5 (by decide) (fun c => absurd c (nI_nlt hi (by omega))) (fun _ => ?_)
  refine v_iload_n (pc := 8) O dJ2_rangeCheckForAdd_8 rfl ?_
  refine v_if_ge (pc := 9) (tgt := 25) O dJ2_rangeCheckForAdd_9 (by decide) (fun _ => ?_) (fun c => absurd (nI_pos' (by omega)) c)
  exact v_vret (pc := 25) O hr (by omega) (by omega) dJ2_rangeCheckForAdd_25 ⟨rfl, rfl⟩
set_option maxHeartbeats 4000000 in
theorem jm_add3 (l : Launch) (Γ : Gm) {a y i : Nat} {m : Int32} {L : List Nat} {c : Nat} {μ0 : Mem} (hL : ALm Γ c a m L μ0) (hlen : L.length ≤ 390) (hE : ∀ y ∈ L, isO μ0 y) (hy : isO μ0 y) (hI : i ≤ L.length) : MetV l Γ yJ2_add_3 cJ2_add_3 5 none 5 1 (L.length + L.length / 2 + 10) [.ref a, .int (nI i), .ref y] μ0 (PV (fun μ1 => ALP Γ c a (m + 1) (insL L i y) μ0 μ1)) := by
  refine MetV.of (by decide +kernel) rfl ?_
  intro X sz hl hr hnm O
  subst hl
  have hU : Upd c μ0 μ0 := Upd.rf
  obtain ⟨arr, cap, f, h_a, hA, hc1, hc2, hf⟩ := hL
  rcases hA with ⟨rfl, rfl⟩ | ⟨h1, h_arr⟩
  · have hi : ∀ y, isO μ0 y → isO μ0 y := fun _ h => h
    have hE2 : ∀ y, y ∈ L → isO μ0 y := hE
    have hn0 : L.length = 0 := by omega
    have hA : AR Γ c (Γ.2.2 257) 0 f μ0 := Or.inl ⟨rfl, rfl⟩
    show V X Γ _ 5 _ 0 0 μ0 0 [(0, .ref a), (1, .int (nI i)), (2, .ref y)] []
    refine v_aload_n (pc := 0) O dJ2_add_3_0 rfl ?_
    refine v_iload_n (pc := 1) O dJ2_add_3_1 rfl ?_
    refine v_callV (pc := 2) (nA := 1) O (jm_rcfa (xL X) Γ h_a hI (by omega)) h_a rfl q797 q799 qs7 q51 q800 (by decide +kernel) rfl rfl rfl rfl (Nat.le_of_ble_eq_true rfl) (by omega) (by omega) dJ2_add_3_2 (v_kV (fun μ9 h => ?_))
    subst h
    refine v_aload_n (pc := 5) O dJ2_add_3_5 rfl ?_
    refine v_dup (pc := 6) O dJ2_add_3_6 rfl ?_
    refine v_getf (pc := 7) O ci9 h_a 0 rfl q131 (fun x9 h9 => u_same (O.hts _ q130) x9 h9) rfl dJ2_add_3_7 ?_
    refine v_iconst (pc := 10) O (x := 1) dJ2_add_3_10 (by decide) ?_
    refine v_iadd (pc := 11) O dJ2_add_3_11 ?_
    refine w_put (pc := 12) O ci9 h_a 0 rfl q131 (fun x9 h9 => u_same (O.hts _ q130) x9 h9) rfl rfl rfl rfl dJ2_add_3_12 (fun μ pp => ?_)
    have hA := hA.put pp
    have hi := fun y9 h9 => pp.isOr (hi y9 h9)
    have hy := pp.isOr hy
    have hE2 := fun y9 h9 => pp.isOr (hE2 y9 h9)
    have h_a : μ a = some (.inr (9, [.int (m + 1), .ref (Γ.2.2 257), .int (nI L.length)]), c) := pp.2.1
    have hU := hU.trans (pp.upd rfl rfl)
    refine v_aload_n (pc := 15) O dJ2_add_3_15 rfl ?_
    refine v_getf (pc := 16) O ci9 h_a 2 rfl q127 (fun _ h => h) rfl dJ2_add_3_16 ?_
    refine v_dup (pc := 19) O dJ2_add_3_19 rfl ?_
    refine v_istore_n (pc := 20) (lv' := [(3, .int (nI L.length)), (0, .ref a), (1, .int (nI i)), (2, .ref y)]) O dJ2_add_3_20 rfl rfl ?_
    refine v_aload_n (pc := 21) O dJ2_add_3_21 rfl ?_
    refine v_getf (pc := 22) O ci9 h_a 1 rfl q124 (fun _ h => h) rfl dJ2_add_3_22 ?_
    refine v_dup (pc := 25) O dJ2_add_3_25 rfl ?_
    refine v_astore (pc := 26) (lv' := [(4, .ref (Γ.2.2 257)), (3, .int (nI L.length)), (0, .ref a), (1, .int (nI i)), (2, .ref y)]) O dJ2_add_3_26 rfl rfl ?_
    refine w_lenE (pc := 28) O dJ2_add_3_28 ?_
    refine v_icmp_ne (pc := 29) (tgt := 38) O dJ2_add_3_29 (by decide) (fun c => absurd (by rw [hn0]; rfl) c) (fun _ => ?_)
    refine v_aload_n (pc := 32) O dJ2_add_3_32 rfl ?_
    refine v_callV (pc := 33) (nA := 0) O (jm_grow (xL X) Γ (n := L.length) (cap := 0) (by rw [← hn0]; exact h_a) hA (by omega) (by omega) (fun i y hi0 => absurd hi0 (by omega))) h_a rfl q539 q541 qs2 q51 q542 (by decide +kernel) rfl rfl rfl rfl (Nat.le_of_ble_eq_true rfl) (by omega) (by omega) dJ2_add_3_33 (v_kR (fun r μ h => ?_))
    rw [show nI 0 = nI L.length by rw [hn0]] at h
    obtain ⟨cap', f', h_a, h_r, hf', hc1, hc2, hU2, hi2⟩ := h
    have hU := hU.trans hU2
    have hy := hi2 _ hy
    have hi : ∀ y, isO μ0 y → isO μ y := fun z hz => hi2 z (hi z hz)
    have hE2 : ∀ y, y ∈ L → isO μ y := fun z hz => hi2 z (hE2 z hz)
    refine v_astore (pc := 36) (lv' := [(4, .ref r), (3, .int (nI L.length)), (0, .ref a), (1, .int (nI i)), (2, .ref y)]) O dJ2_add_3_36 rfl rfl ?_
    refine v_aload (pc := 38) O dJ2_add_3_38 rfl ?_
    refine v_iload_n (pc := 40) O dJ2_add_3_40 rfl ?_
    refine v_aload (pc := 41) O dJ2_add_3_41 rfl ?_
    refine v_iload_n (pc := 43) O dJ2_add_3_43 rfl ?_
    refine v_iconst (pc := 44) O (x := 1) dJ2_add_3_44 (by decide) ?_
    refine w_iadd (pc := 45) O (nI (i + 1)) (nI_1 _) dJ2_add_3_45 ?_
    refine v_iload_n (pc := 46) O dJ2_add_3_46 rfl ?_
    refine v_iload_n (pc := 47) O dJ2_add_3_47 rfl ?_
    refine w_isub (pc := 48) O (nI (L.length - i)) (nI_sub hI (by omega)) dJ2_add_3_48 ?_
    refine w_copy (pc := 49) O q822 q292 q291 q65 h_r h_r (nI_pos (by omega)) (nI_pos (by omega)) (nI_pos (by omega)) (by rw [nI_clamp (by omega), nI_clamp (by omega)]; omega) (by rw [nI_clamp (by omega), nI_clamp (by omega)]; omega) (fun k hk y hy9 => isO_f (i := i + k) (fun j hj => (hf' j hj).trans (hf j hj)) hE2 (by rw [nI_clamp (by omega)] at hk; omega) (by rw [nI_clamp (by omega)] at hy9; exact hy9)) rfl (Nat.le_of_ble_eq_true rfl) dJ2_add_3_49 (fun μ pp => ?_)
    rw [nI_clamp (show i < 2 ^ 31 by omega), nI_clamp (show i + 1 < 2 ^ 31 by omega), nI_clamp (show L.length - i < 2 ^ 31 by omega)] at pp
    have h_a := pp.oth h_a (fun h => by cases h)
    have hi := fun y9 h9 => pp.isOl (hi y9 h9)
    have hy := pp.isOl hy
    have hE2 := fun y9 h9 => pp.isOl (hE2 y9 h9)
    have h_r : μ r = some (.inl (Γ.2.1 3, cap', .inr (.inr (.inr (.inr (va_cpy f' f' i (i + 1) (L.length - i)))))), c) := pp.2.1
    have hU := hU.trans (pp.upd rfl rfl)
    refine v_aload (pc := 52) O dJ2_add_3_52 rfl ?_
    refine v_iload_n (pc := 54) O dJ2_add_3_54 rfl ?_
    refine v_aload_n (pc := 55) O dJ2_add_3_55 rfl ?_
    refine w_astq (pc := 56) O h_r hy (vp_in_nI (by omega) (by omega)) dJ2_add_3_56 (fun μ pp => ?_)
    rw [nI_clamp (show i < 2 ^ 31 by omega)] at pp
    have h_a := pp.oth h_a (fun h => by cases h)
    have hi := fun y9 h9 => pp.isOl (hi y9 h9)
    have hy := pp.isOl hy
    have hE2 := fun y9 h9 => pp.isOl (hE2 y9 h9)
    have h_r : μ r = some (.inl (Γ.2.1 3, cap', .inr (.inr (.inr (.inr (va_up (va_cpy f' f' i (i + 1) (L.length - i)) i (some y)))))), c) := pp.2.1
    have hU := hU.trans (pp.upd rfl rfl)
    refine v_aload_n (pc := 57) O dJ2_add_3_57 rfl ?_
    refine v_iload_n (pc := 58) O dJ2_add_3_58 rfl ?_
    refine v_iconst (pc := 59) O (x := 1) dJ2_add_3_59 (by decide) ?_
    refine w_iadd (pc := 60) O (nI (L.length + 1)) (nI_1 _) dJ2_add_3_60 ?_
    refine w_put (pc := 61) O ci9 h_a 2 rfl q127 (fun _ h => h) rfl rfl rfl rfl dJ2_add_3_61 (fun μ pp => ?_)
    have h_r := pp.oth h_r (fun h => by cases h)
    have hi := fun y9 h9 => pp.isOr (hi y9 h9)
    have hy := pp.isOr hy
    have hE2 := fun y9 h9 => pp.isOr (hE2 y9 h9)
    have h_a : μ a = some (.inr (9, [.int (m + 1), .ref r, .int (nI (L.length + 1))]), c) := pp.2.1
    have hU := hU.trans (pp.upd rfl rfl)
    exact v_vret (pc := 64) O hr (by omega) (by omega) dJ2_add_3_64 ⟨rfl, ALP.mk2 h_a (by rw [insL_len hI]) h_r (by omega) (by rw [insL_len hI]; omega) (by omega) (al_ins hI (fun j hj => (hf' j hj).trans (hf j hj))) hU hi⟩
  · have hi : ∀ y, isO μ0 y → isO μ0 y := fun _ h => h
    have hE2 : ∀ y, y ∈ L → isO μ0 y := hE
    have hA : AR Γ c arr cap f μ0 := Or.inr ⟨h1, h_arr⟩
    show V X Γ _ 5 _ 0 0 μ0 0 [(0, .ref a), (1, .int (nI i)), (2, .ref y)] []
    refine v_aload_n (pc := 0) O dJ2_add_3_0 rfl ?_
    refine v_iload_n (pc := 1) O dJ2_add_3_1 rfl ?_
    refine v_callV (pc := 2) (nA := 1) O (jm_rcfa (xL X) Γ h_a hI (by omega)) h_a rfl q797 q799 qs7 q51 q800 (by decide +kernel) rfl rfl rfl rfl (Nat.le_of_ble_eq_true rfl) (by omega) (by omega) dJ2_add_3_2 (v_kV (fun μ9 h => ?_))
    subst h
    refine v_aload_n (pc := 5) O dJ2_add_3_5 rfl ?_
    refine v_dup (pc := 6) O dJ2_add_3_6 rfl ?_
    refine v_getf (pc := 7) O ci9 h_a 0 rfl q131 (fun x9 h9 => u_same (O.hts _ q130) x9 h9) rfl dJ2_add_3_7 ?_
    refine v_iconst (pc := 10) O (x := 1) dJ2_add_3_10 (by decide) ?_
    refine v_iadd (pc := 11) O dJ2_add_3_11 ?_
    refine w_put (pc := 12) O ci9 h_a 0 rfl q131 (fun x9 h9 => u_same (O.hts _ q130) x9 h9) rfl rfl rfl rfl dJ2_add_3_12 (fun μ pp => ?_)
    have hA := hA.put pp
    have h_arr := pp.oth h_arr (fun h => by cases h)
    have hi := fun y9 h9 => pp.isOr (hi y9 h9)
    have hy := pp.isOr hy
    have hE2 := fun y9 h9 => pp.isOr (hE2 y9 h9)
    have h_a : μ a = some (.inr (9, [.int (m + 1), .ref arr, .int (nI L.length)]), c) := pp.2.1
    have hU := hU.trans (pp.upd rfl rfl)
    refine v_aload_n (pc := 15) O dJ2_add_3_15 rfl ?_
    refine v_getf (pc := 16) O ci9 h_a 2 rfl q127 (fun _ h => h) rfl dJ2_add_3_16 ?_
    refine v_dup (pc := 19) O dJ2_add_3_19 rfl ?_
    refine v_istore_n (pc := 20) (lv' := [(3, .int (nI L.length)), (0, .ref a), (1, .int (nI i)), (2, .ref y)]) O dJ2_add_3_20 rfl rfl ?_
    refine v_aload_n (pc := 21) O dJ2_add_3_21 rfl ?_
    refine v_getf (pc := 22) O ci9 h_a 1 rfl q124 (fun _ h => h) rfl dJ2_add_3_22 ?_
    refine v_dup (pc := 25) O dJ2_add_3_25 rfl ?_
    refine v_astore (pc := 26) (lv' := [(4, .ref arr), (3, .int (nI L.length)), (0, .ref a), (1, .int (nI i)), (2, .ref y)]) O dJ2_add_3_26 rfl rfl ?_
    refine v_alen (pc := 28) O 3 rfl h_arr (v := nI cap) rfl dJ2_add_3_28 ?_
    refine v_icmp_ne (pc := 29) (tgt := 38) O dJ2_add_3_29 (by decide) (fun c_29 => ?_) (fun c_29 => ?_)
    · have hcL : L.length < cap := by have : ¬ L.length = cap := (fun z => c_29 (by rw [z])); omega
      refine v_aload (pc := 38) O dJ2_add_3_38 rfl ?_
      refine v_iload_n (pc := 40) O dJ2_add_3_40 rfl ?_
      refine v_aload (pc := 41) O dJ2_add_3_41 rfl ?_
      refine v_iload_n (pc := 43) O dJ2_add_3_43 rfl ?_
      refine v_iconst (pc := 44) O (x := 1) dJ2_add_3_44 (by decide) ?_
      refine w_iadd (pc := 45) O (nI (i + 1)) (nI_1 _) dJ2_add_3_45 ?_
      refine v_iload_n (pc := 46) O dJ2_add_3_46 rfl ?_
      refine v_iload_n (pc := 47) O dJ2_add_3_47 rfl ?_
      refine w_isub (pc := 48) O (nI (L.length - i)) (nI_sub hI (by omega)) dJ2_add_3_48 ?_
      refine w_copy (pc := 49) O q822 q292 q291 q65 h_arr h_arr (nI_pos (by omega)) (nI_pos (by omega)) (nI_pos (by omega)) (by rw [nI_clamp (by omega), nI_clamp (by omega)]; omega) (by rw [nI_clamp (by omega), nI_clamp (by omega)]; omega) (fun k hk y hy9 => isO_f (i := i + k) hf hE2 (by rw [nI_clamp (by omega)] at hk; omega) (by rw [nI_clamp (by omega)] at hy9; exact hy9)) rfl (Nat.le_of_ble_eq_true rfl) dJ2_add_3_49 (fun μ pp => ?_)
      rw [nI_clamp (show i < 2 ^ 31 by omega), nI_clamp (show i + 1 < 2 ^ 31 by omega), nI_clamp (show L.length - i < 2 ^ 31 by omega)] at pp
      have h_a := pp.oth h_a (fun h => by cases h)
      have hi := fun y9 h9 => pp.isOl (hi y9 h9)
      have hy := pp.isOl hy
      have hE2 := fun y9 h9 => pp.isOl (hE2 y9 h9)
      have h_arr : μ arr = some (.inl (Γ.2.1 3, cap, .inr (.inr (.inr (.inr (va_cpy f f i (i + 1) (L.length - i)))))), c) := pp.2.1
      have hU := hU.trans (pp.upd rfl rfl)
      refine v_aload (pc := 52) O dJ2_add_3_52 rfl ?_
      refine v_iload_n (pc := 54) O dJ2_add_3_54 rfl ?_
      refine v_aload_n (pc := 55) O dJ2_add_3_55 rfl ?_
      refine w_astq (pc := 56) O h_arr hy (vp_in_nI (by omega) (by omega)) dJ2_add_3_56 (fun μ pp => ?_)
      rw [nI_clamp (show i < 2 ^ 31 by omega)] at pp
      have h_a := pp.oth h_a (fun h => by cases h)
      have hi := fun y9 h9 => pp.isOl (hi y9 h9)
      have hy := pp.isOl hy
      have hE2 := fun y9 h9 => pp.isOl (hE2 y9 h9)
      have h_arr : μ arr = some (.inl (Γ.2.1 3, cap, .inr (.inr (.inr (.inr (va_up (va_cpy f f i (i + 1) (L.length - i)) i (some y)))))), c) := pp.2.1
      have hU := hU.trans (pp.upd rfl rfl)
      refine v_aload_n (pc := 57) O dJ2_add_3_57 rfl ?_
      refine v_iload_n (pc := 58) O dJ2_add_3_58 rfl ?_
      refine v_iconst (pc := 59) O (x := 1) dJ2_add_3_59 (by decide) ?_
      refine w_iadd (pc := 60) O (nI (L.length + 1)) (nI_1 _) dJ2_add_3_60 ?_
      refine w_put (pc := 61) O ci9 h_a 2 rfl q127 (fun _ h => h) rfl rfl rfl rfl dJ2_add_3_61 (fun μ pp => ?_)
      have h_arr := pp.oth h_arr (fun h => by cases h)
      have hi := fun y9 h9 => pp.isOr (hi y9 h9)
      have hy := pp.isOr hy
      have hE2 := fun y9 h9 => pp.isOr (hE2 y9 h9)
      have h_a : μ a = some (.inr (9, [.int (m + 1), .ref arr, .int (nI (L.length + 1))]), c) := pp.2.1
      have hU := hU.trans (pp.upd rfl rfl)
      exact v_vret (pc := 64) O hr (by omega) (by omega) dJ2_add_3_64 ⟨rfl, ALP.mk2 h_a (by rw [insL_len hI]) h_arr (by omega) (by rw [insL_len hI]; omega) (by omega) (al_ins hI hf) hU hi⟩
    · have hcL : L.length = cap := (nI_eq (by omega) (by omega)).mp c_29
      refine v_aload_n (pc := 32) O dJ2_add_3_32 rfl ?_
      refine v_callV (pc := 33) (nA := 0) O (jm_grow (xL X) Γ (n := L.length) (cap := cap) (by rw [← hcL]; exact h_a) hA (by omega) (by omega) (fun i y hi0 hh => isO_f hf hE2 (by omega) hh)) h_a rfl q539 q541 qs2 q51 q542 (by decide +kernel) rfl rfl rfl rfl (Nat.le_of_ble_eq_true rfl) (by omega) (by omega) dJ2_add_3_33 (v_kR (fun r μ h => ?_))
      rw [← hcL] at h
      obtain ⟨cap', f', h_a, h_r, hf', hc1, hc2, hU2, hi2⟩ := h
      have hU := hU.trans hU2
      have hy := hi2 _ hy
      have hi : ∀ y, isO μ0 y → isO μ y := fun z hz => hi2 z (hi z hz)
      have hE2 : ∀ y, y ∈ L → isO μ y := fun z hz => hi2 z (hE2 z hz)
      refine v_astore (pc := 36) (lv' := [(4, .ref r), (3, .int (nI L.length)), (0, .ref a), (1, .int (nI i)), (2, .ref y)]) O dJ2_add_3_36 rfl rfl ?_
      refine v_aload (pc := 38) O dJ2_add_3_38 rfl ?_
      refine v_iload_n (pc := 40) O dJ2_add_3_40 rfl ?_
      refine v_aload (pc := 41) O dJ2_add_3_41 rfl ?_
      refine v_iload_n (pc := 43) O dJ2_add_3_43 rfl ?_
      refine v_iconst (pc := 44) O (x := 1) dJ2_add_3_44 (by decide) ?_
      refine w_iadd (pc := 45) O (nI (i + 1)) (nI_1 _) dJ2_add_3_45 ?_
      refine v_iload_n (pc := 46) O dJ2_add_3_46 rfl ?_
      refine v_iload_n (pc := 47) O dJ2_add_3_47 rfl ?_
      refine w_isub (pc := 48) O (nI (L.length - i)) (nI_sub hI (by omega)) dJ2_add_3_48 ?_
      refine w_copy (pc := 49) O q822 q292 q291 q65 h_r h_r (nI_pos (by omega)) (nI_pos (by omega)) (nI_pos (by omega)) (by rw [nI_clamp (by omega), nI_clamp (by omega)]; omega) (by rw [nI_clamp (by omega), nI_clamp (by omega)]; omega) (fun k hk y hy9 => isO_f (i := i + k) (fun j hj => (hf' j hj).trans (hf j hj)) hE2 (by rw [nI_clamp (by omega)] at hk; omega) (by rw [nI_clamp (by omega)] at hy9; exact hy9)) rfl (Nat.le_of_ble_eq_true rfl) dJ2_add_3_49 (fun μ pp => ?_)
      rw [nI_clamp (show i < 2 ^ 31 by omega), nI_clamp (show i + 1 < 2 ^ 31 by omega), nI_clamp (show L.length - i < 2 ^ 31 by omega)] at pp
      have h_a := pp.oth h_a (fun h => by cases h)
      have hi := fun y9 h9 => pp.isOl (hi y9 h9)
      have hy := pp.isOl hy
      have hE2 := fun y9 h9 => pp.isOl (hE2 y9 h9)
      have h_r : μ r = some (.inl (Γ.2.1 3, cap', .inr (.inr (.inr (.inr (va_cpy f' f' i (i + 1) (L.length - i)))))), c) := pp.2.1
      have hU := hU.trans (pp.upd rfl rfl)
      refine v_aload (pc := 52) O dJ2_add_3_52 rfl ?_
      refine v_iload_n (pc := 54) O dJ2_add_3_54 rfl ?_
      refine v_aload_n (pc := 55) O dJ2_add_3_55 rfl ?_
      refine w_astq (pc := 56) O h_r hy (vp_in_nI (by omega) (by omega)) dJ2_add_3_56 (fun μ pp => ?_)
      rw [nI_clamp (show i < 2 ^ 31 by omega)] at pp
      have h_a := pp.oth h_a (fun h => by cases h)
      have hi := fun y9 h9 => pp.isOl (hi y9 h9)
      have hy := pp.isOl hy
      have hE2 := fun y9 h9 => pp.isOl (hE2 y9 h9)
      have h_r : μ r = some (.inl (Γ.2.1 3, cap', .inr (.inr (.inr (.inr (va_up (va_cpy f' f' i (i + 1) (L.length - i)) i (some y)))))), c) := pp.2.1
      have hU := hU.trans (pp.upd rfl rfl)
      refine v_aload_n (pc := 57) O dJ2_add_3_57 rfl ?_
      refine v_iload_n (pc := 58) O dJ2_add_3_58 rfl ?_
      refine v_iconst (pc := 59) O (x := 1) dJ2_add_3_59 (by decide) ?_
      refine w_iadd (pc := 60) O (nI (L.length + 1)) (nI_1 _) dJ2_add_3_60 ?_
      refine w_put (pc := 61) O ci9 h_a 2 rfl q127 (fun _ h => h) rfl rfl rfl rfl dJ2_add_3_61 (fun μ pp => ?_)
      have h_r := pp.oth h_r (fun h => by cases h)
      have hi := fun y9 h9 => pp.isOr (hi y9 h9)
      have hy := pp.isOr hy
      have hE2 := fun y9 h9 => pp.isOr (hE2 y9 h9)
      have h_a : μ a = some (.inr (9, [.int (m + 1), .ref r, .int (nI (L.length + 1))]), c) := pp.2.1
      have hU := hU.trans (pp.upd rfl rfl)
      exact v_vret (pc := 64) O hr (by omega) (by omega) dJ2_add_3_64 ⟨rfl, ALP.mk2 h_a (by rw [insL_len hI]) h_r (by omega) (by rw [insL_len hI]; omega) (by omega) (al_ins hI (fun j hj => (hf' j hj).trans (hf j hj))) hU hi⟩
set_option maxHeartbeats 4000000 in
theorem jm_fastRemove (l : Launch) (Γ : Gm) {a i arr cap : Nat} {m : Int32} {L : List Nat} {f : Nat → Option Nat} {c : Nat} {μ0 : Mem} (h_a : μ0 a = some (.inr (9, [.int m, .ref arr, .int (nI L.length)]), c)) (h_arr : μ0 arr = some (.inl (Γ.2.1 3, cap, .inr (.inr (.inr (.inr f)))), c)) (hI : i < L.length) (hc1 : L.length ≤ cap) (hc2 : cap ≤ 600) (hf : ∀ j, j < L.length → f j = L[j]?) (hE : ∀ y ∈ L, isO μ0 y) : MetV l Γ yJ2_fastRemove cJ2_fastRemove 4 none 3 0 0 [.ref a, .ref arr, .int (nI i)] μ0 (PV (fun μ1 => ALP Γ c a (m + 1) (L.eraseIdx i) μ0 μ1)) := by
  refine MetV.of (by decide +kernel) rfl ?_
  intro X sz hl hr hnm O
  subst hl
  have hU : Upd c μ0 μ0 := Upd.rf
  have hi : ∀ y, isO μ0 y → isO μ0 y := fun _ h => h
  have hE2 : ∀ y, y ∈ L → isO μ0 y := hE
  show V X Γ _ 4 _ 0 0 μ0 0 [(0, .ref a), (1, .ref arr), (2, .int (nI i))] []
  refine v_aload_n (pc := 0) O dJ2_fastRemove_0 rfl ?_
  refine v_dup (pc := 1) O dJ2_fastRemove_1 rfl ?_
  refine v_getf (pc := 2) O ci9 h_a 0 rfl q131 (fun x9 h9 => u_same (O.hts _ q130) x9 h9) rfl dJ2_fastRemove_2 ?_
  refine v_iconst (pc := 5) O (x := 1) dJ2_fastRemove_5 (by decide) ?_
  refine v_iadd (pc := 6) O dJ2_fastRemove_6 ?_
  refine w_put (pc := 7) O ci9 h_a 0 rfl q131 (fun x9 h9 => u_same (O.hts _ q130) x9 h9) rfl rfl rfl rfl dJ2_fastRemove_7 (fun μ pp => ?_)
  have h_arr := pp.oth h_arr (fun h => by cases h)
  have hi := fun y9 h9 => pp.isOr (hi y9 h9)
  have hE2 := fun y9 h9 => pp.isOr (hE2 y9 h9)
  have h_a : μ a = some (.inr (9, [.int (m + 1), .ref arr, .int (nI L.length)]), c) := pp.2.1
  have hU := hU.trans (pp.upd rfl rfl)
  refine v_aload_n (pc := 10) O dJ2_fastRemove_10 rfl ?_
  refine v_getf (pc := 11) O ci9 h_a 2 rfl q127 (fun _ h => h) rfl dJ2_fastRemove_11 ?_
  refine v_iconst (pc := 14) O (x := 1) dJ2_fastRemove_14 (by decide) ?_
  refine w_isub (pc := 15) O (nI (L.length - 1)) (nI_sub1 (by omega) (by omega)) dJ2_fastRemove_15 ?_
  refine v_dup (pc := 16) O dJ2_fastRemove_16 rfl ?_
  refine v_istore_n (pc := 17) (lv' := [(3, .int (nI (L.length - 1))), (0, .ref a), (1, .ref arr), (2, .int (nI i))]) O dJ2_fastRemove_17 rfl rfl ?_
  refine v_iload_n (pc := 18) O dJ2_fastRemove_18 rfl ?_
  refine v_icmp_le (pc := 19) (tgt := 34) O dJ2_fastRemove_19 (by decide) (fun c_19 => ?_) (fun c_19 => ?_)
  · have hci : L.length - 1 ≤ i := (nI_leI (by omega) (by omega)).mp c_19
    refine v_aload_n (pc := 34) O dJ2_fastRemove_34 rfl ?_
    refine v_aload_n (pc := 35) O dJ2_fastRemove_35 rfl ?_
    refine v_iload_n (pc := 36) O dJ2_fastRemove_36 rfl ?_
    refine v_dup_x1 (pc := 37) O dJ2_fastRemove_37 rfl rfl ?_
    refine w_put (pc := 38) O ci9 h_a 2 rfl q127 (fun _ h => h) rfl rfl rfl rfl dJ2_fastRemove_38 (fun μ pp => ?_)
    have h_arr := pp.oth h_arr (fun h => by cases h)
    have hi := fun y9 h9 => pp.isOr (hi y9 h9)
    have hE2 := fun y9 h9 => pp.isOr (hE2 y9 h9)
    have h_a : μ a = some (.inr (9, [.int (m + 1), .ref arr, .int (nI (L.length - 1))]), c) := pp.2.1
    have hU := hU.trans (pp.upd rfl rfl)
    refine v_null (pc := 41) O dJ2_fastRemove_41 ?_
    refine w_astN (pc := 42) O 3 rfl h_arr (vp_in_nI (by omega) (by omega)) dJ2_fastRemove_42 (fun μ pp => ?_)
    rw [nI_clamp (show L.length - 1 < 2 ^ 31 by omega)] at pp
    have h_a := pp.oth h_a (fun h => by cases h)
    have hi := fun y9 h9 => pp.isOl (hi y9 h9)
    have hE2 := fun y9 h9 => pp.isOl (hE2 y9 h9)
    have h_arr : μ arr = some (.inl (Γ.2.1 3, cap, .inr (.inr (.inr (.inr (va_up f (L.length - 1) none))))), c) := pp.2.1
    have hU := hU.trans (pp.upd rfl rfl)
    have hz : L.length - 1 - i = 0 := by omega
    exact v_vret (pc := 43) O hr (by omega) (by omega) dJ2_fastRemove_43 ⟨rfl, ALP.mk2 h_a (by rw [List.length_eraseIdx_of_lt hI]) h_arr (by omega) (by rw [List.length_eraseIdx_of_lt hI]; omega) (by omega) (by have h9 := al_del hI hf; rw [hz, va_cpy_0] at h9; exact h9) hU hi⟩
  · have hci : i < L.length - 1 := Nat.lt_of_not_le (fun z => c_19 (nI_le z (show i < 2 ^ 31 by omega)))
    refine v_aload_n (pc := 22) O dJ2_fastRemove_22 rfl ?_
    refine v_iload_n (pc := 23) O dJ2_fastRemove_23 rfl ?_
    refine v_iconst (pc := 24) O (x := 1) dJ2_fastRemove_24 (by decide) ?_
    refine w_iadd (pc := 25) O (nI (i + 1)) (nI_1 _) dJ2_fastRemove_25 ?_
    refine v_aload_n (pc := 26) O dJ2_fastRemove_26 rfl ?_
    refine v_iload_n (pc := 27) O dJ2_fastRemove_27 rfl ?_
    refine v_iload_n (pc := 28) O dJ2_fastRemove_28 rfl ?_
    refine v_iload_n (pc := 29) O dJ2_fastRemove_29 rfl ?_
    refine w_isub (pc := 30) O (nI (L.length - 1 - i)) (nI_sub (by omega) (by omega)) dJ2_fastRemove_30 ?_
    refine w_copy (pc := 31) O q822 q292 q291 q65 h_arr h_arr (nI_pos (by omega)) (nI_pos (by omega)) (nI_pos (by omega)) (by rw [nI_clamp (by omega), nI_clamp (by omega)]; omega) (by rw [nI_clamp (by omega), nI_clamp (by omega)]; omega) (fun k hk y hy9 => isO_f (i := i + 1 + k) hf hE2 (by rw [nI_clamp (by omega)] at hk; omega) (by rw [nI_clamp (by omega)] at hy9; exact hy9)) rfl (Nat.le_of_ble_eq_true rfl) dJ2_fastRemove_31 (fun μ pp => ?_)
    rw [nI_clamp (show i + 1 < 2 ^ 31 by omega), nI_clamp (show i < 2 ^ 31 by omega), nI_clamp (show L.length - 1 - i < 2 ^ 31 by omega)] at pp
    have h_a := pp.oth h_a (fun h => by cases h)
    have hi := fun y9 h9 => pp.isOl (hi y9 h9)
    have hE2 := fun y9 h9 => pp.isOl (hE2 y9 h9)
    have h_arr : μ arr = some (.inl (Γ.2.1 3, cap, .inr (.inr (.inr (.inr (va_cpy f f (i + 1) i (L.length - 1 - i)))))), c) := pp.2.1
    have hU := hU.trans (pp.upd rfl rfl)
    refine v_aload_n (pc := 34) O dJ2_fastRemove_34 rfl ?_
    refine v_aload_n (pc := 35) O dJ2_fastRemove_35 rfl ?_
    refine v_iload_n (pc := 36) O dJ2_fastRemove_36 rfl ?_
    refine v_dup_x1 (pc := 37) O dJ2_fastRemove_37 rfl rfl ?_
    refine w_put (pc := 38) O ci9 h_a 2 rfl q127 (fun _ h => h) rfl rfl rfl rfl dJ2_fastRemove_38 (fun μ pp => ?_)
    have h_arr := pp.oth h_arr (fun h => by cases h)
    have hi := fun y9 h9 => pp.isOr (hi y9 h9)
    have hE2 := fun y9 h9 => pp.isOr (hE2 y9 h9)
    have h_a : μ a = some (.inr (9, [.int (m + 1), .ref arr, .int (nI (L.length - 1))]), c) := pp.2.1
    have hU := hU.trans (pp.upd rfl rfl)
    refine v_null (pc := 41) O dJ2_fastRemove_41 ?_
    refine w_astN (pc := 42) O 3 rfl h_arr (vp_in_nI (by omega) (by omega)) dJ2_fastRemove_42 (fun μ pp => ?_)
    rw [nI_clamp (show L.length - 1 < 2 ^ 31 by omega)] at pp
    have h_a := pp.oth h_a (fun h => by cases h)
    have hi := fun y9 h9 => pp.isOl (hi y9 h9)
    have hE2 := fun y9 h9 => pp.isOl (hE2 y9 h9)
    have h_arr : μ arr = some (.inl (Γ.2.1 3, cap, .inr (.inr (.inr (.inr (va_up (va_cpy f f (i + 1) i (L.length - 1 - i)) (L.length - 1) none))))), c) := pp.2.1
    have hU := hU.trans (pp.upd rfl rfl)
    exact v_vret (pc := 43) O hr (by omega) (by omega) dJ2_fastRemove_43 ⟨rfl, ALP.mk2 h_a (by rw [List.length_eraseIdx_of_lt hI]) h_arr (by omega) (by rw [List.length_eraseIdx_of_lt hI]; omega) (by omega) (al_del hI hf) hU hi⟩
set_option maxHeartbeats 4000000 in
theorem jm_remove (l : Launch) (Γ : Gm) {a i v : Nat} {m : Int32} {L : List Nat} {c : Nat} {μ0 : Mem} (hL : ALm Γ c a m L μ0) (hv : L[i]? = some v) (hE : ∀ y ∈ L, isO μ0 y) : MetV l Γ yJ2_remove cJ2_remove 4 (some (.object "java/lang/Object")) 4 0 0 [.ref a, .int (nI i)] μ0 (PR (fun r μ1 => r = v ∧ ALP Γ c a (m + 1) (L.eraseIdx i) μ0 μ1)) := by
  refine MetV.of (by decide +kernel) rfl ?_
  intro X sz hl hr hnm O
  subst hl
  obtain ⟨arr, cap, f, h_a, h_arr, hi, hc1, hc2, hf, hfv, hc3⟩ := hL.real hv
  show V X Γ _ 4 _ 0 0 μ0 0 [(0, .ref a), (1, .int (nI i))] []
  refine v_iload_n (pc := 0) O dJ2_remove_0 rfl ?_
  refine v_aload_n (pc := 1) O dJ2_remove_1 rfl ?_
  refine v_getf (pc := 2) O ci9 h_a 2 rfl q127 (fun _ h => h) rfl dJ2_remove_2 ?_
  refine v_callS (pc := 5) (nA := 2) O (jm_chk (xL X) Γ hi (by omega) _) q778 q779 q75 q780 (by decide +kernel) rfl rfl rfl rfl (Nat.le_of_ble_eq_true rfl) (by omega) (by omega) dJ2_remove_5 (v_kI (fun x μ9 h => ?_))
  obtain ⟨rfl, rfl⟩ := h
  refine v_pop (pc := 8) O dJ2_remove_8 rfl ?_
  refine v_aload_n (pc := 9) O dJ2_remove_9 rfl ?_
  refine v_getf (pc := 10) O ci9 h_a 1 rfl q124 (fun _ h => h) rfl dJ2_remove_10 ?_
  refine v_astore_n (pc := 13) (lv' := [(2, .ref arr), (0, .ref a), (1, .int (nI i))]) O dJ2_remove_13 rfl rfl ?_
  refine v_aload_n (pc := 14) O dJ2_remove_14 rfl ?_
  refine v_iload_n (pc := 15) O dJ2_remove_15 rfl ?_
  refine w_aldq (pc := 16) O 3 rfl h_arr (vp_in_nI (by omega) (by omega)) (v := .ref v) (by rw [nI_clamp (show i < 2 ^ 31 by omega), hfv]; rfl) dJ2_remove_16 ?_
  refine v_astore_n (pc := 17) (lv' := [(3, .ref v), (2, .ref arr), (0, .ref a), (1, .int (nI i))]) O dJ2_remove_17 rfl rfl ?_
  refine v_aload_n (pc := 18) O dJ2_remove_18 rfl ?_
  refine v_aload_n (pc := 19) O dJ2_remove_19 rfl ?_
  refine v_iload_n (pc := 20) O dJ2_remove_20 rfl ?_
  refine v_callV (pc := 21) (nA := 2) O (jm_fastRemove (xL X) Γ h_a h_arr hi hc1 hc2 hf hE) h_a rfl q1640 q1642 qs13 q51 q1643 (by decide +kernel) rfl rfl rfl rfl (Nat.le_of_ble_eq_true rfl) (by omega) (by omega) dJ2_remove_21 (v_kV (fun μ9 h => ?_))
  refine v_aload_n (pc := 24) O dJ2_remove_24 rfl ?_
  exact v_aret (pc := 25) O hr (Or.inl ⟨_, rfl⟩) (by omega) (by omega) dJ2_remove_25 (Or.inr ⟨_, rfl⟩) ⟨v, rfl, ⟨rfl, h⟩⟩
set_option maxHeartbeats 4000000 in
theorem jm_itr_init (l : Launch) (Γ : Gm) {q a arr t : Nat} {m x : Int32} {c : Nat} {μ0 : Mem} (h_a : μ0 a = some (.inr (9, [.int m, .ref arr, .int x]), c)) (h_q : μ0 q = some (.inr (10, [.int 0, .int 0, .int 0, .null]), t)) (hqa : a ≠ q) : MetV l Γ yJ26_init cJ26_init 2 none 1 0 0 [.ref q, .ref a] μ0 (PV (fun μ1 => Put q (.inr (10, [.int 0, .int 0, .int 0, .null]), t) (.inr (10, [.int 0, .int (-1), .int m, .ref a]), t) μ0 μ1)) := by
  refine MetV.of (by decide +kernel) rfl ?_
  intro X sz hl hr hnm O
  subst hl
  have hPq := Put.id h_q
  show V X Γ _ 2 _ 0 0 μ0 0 [(0, .ref q), (1, .ref a)] []
  refine v_aload_n (pc := 0) O dJ26_init_0 rfl ?_
  refine v_aload_n (pc := 1) O dJ26_init_1 rfl ?_
  refine w_putF (pc := 2) O hnm ci10 h_q 3 rfl q647 (fun _ h => h) rfl rfl rfl rfl rfl dJ26_init_2 (fun μ pp => ?_)
  have h_a := (pp.2.2 _ hqa).trans h_a
  have h_q : μ q = some (.inr (10, [.int 0, .int 0, .int 0, .ref a]), t) := pp.2.1
  have hPq := hPq.trans pp
  refine v_aload_n (pc := 5) O dJ26_init_5 rfl ?_
  refine v_objInit (pc := 6) O q643 q104 q105 rfl (Nat.le_of_ble_eq_true rfl) dJ26_init_6 ?_
  refine v_aload_n (pc := 9) O dJ26_init_9 rfl ?_
  refine v_iconst (pc := 10) O (x := -1) dJ26_init_10 (by decide) ?_
  refine w_put (pc := 11) O ci10 h_q 1 rfl q645 (fun _ h => h) rfl rfl rfl rfl dJ26_init_11 (fun μ pp => ?_)
  have h_a := (pp.2.2 _ hqa).trans h_a
  have h_q : μ q = some (.inr (10, [.int 0, .int (-1), .int 0, .ref a]), t) := pp.2.1
  have hPq := hPq.trans pp
  refine v_aload_n (pc := 14) O dJ26_init_14 rfl ?_
  refine v_aload_n (pc := 15) O dJ26_init_15 rfl ?_
  refine v_getf (pc := 16) O ci10 h_q 3 rfl q647 (fun _ h => h) rfl dJ26_init_16 ?_
  refine v_getf (pc := 19) O ci9 h_a 0 rfl q129 (fun x9 h9 => u_same (O.hts _ q130) x9 h9) rfl dJ26_init_19 ?_
  refine w_put (pc := 22) O ci10 h_q 2 rfl q646 (fun _ h => h) rfl rfl rfl rfl dJ26_init_22 (fun μ pp => ?_)
  have h_a := (pp.2.2 _ hqa).trans h_a
  have h_q : μ q = some (.inr (10, [.int 0, .int (-1), .int m, .ref a]), t) := pp.2.1
  have hPq := hPq.trans pp
  exact v_vret (pc := 25) O hr (by omega) (by omega) dJ26_init_25 ⟨rfl, hPq⟩
set_option maxHeartbeats 4000000 in
theorem jm_iterator (l : Launch) (Γ : Gm) {a arr : Nat} {m x : Int32} {c : Nat} {μ0 : Mem} (h_a : μ0 a = some (.inr (9, [.int m, .ref arr, .int x]), c)) (t : Nat) : MetV l Γ yJ2_iterator cJ2_iterator 1 (some (.object "java/util/Iterator")) 2 1 4 [.ref a] μ0 (PR (fun r μ1 => New r (.inr (10, [.int 0, .int (-1), .int m, .ref a]), t) μ0 μ1)) := by
  refine MetV.of (by decide +kernel) rfl ?_
  intro X sz hl hr hnm O
  subst hl
  show V X Γ _ 1 _ 0 0 μ0 0 [(0, .ref a)] []
  refine w_new (pc := 0) O t [.int 0, .int 0, .int 0, .null] ci10 q638 q639 q84 (by decide +kernel) (by omega) (by omega) dJ2_iterator_0 (fun q μ pp => ?_)
  have hq := pp
  have hqa : a ≠ q := fun z => by rw [z, hq.1] at h_a; cases h_a
  have h_a := pp.oth h_a
  have h_q : μ q = some (.inr (10, [.int 0, .int 0, .int 0, .null]), t) := pp.2.1
  refine v_dup (pc := 3) O dJ2_iterator_3 rfl ?_
  refine v_aload_n (pc := 4) O dJ2_iterator_4 rfl ?_
  refine v_callI (pc := 5) (nA := 1) O (jm_itr_init (xL X) Γ h_a h_q hqa) q640 q641 q84 q642 rfl (by decide +kernel) rfl rfl rfl rfl (Nat.le_of_ble_eq_true rfl) (by omega) (by omega) dJ2_iterator_5 (v_kV (fun μ h => ?_))
  exact v_aret (pc := 8) O hr (Or.inl ⟨_, rfl⟩) (by omega) (by omega) dJ2_iterator_8 (Or.inr ⟨_, rfl⟩) ⟨q, rfl, hq.put h⟩
set_option maxHeartbeats 4000000 in
theorem jm_hasNext (l : Launch) (Γ : Gm) {it a t : Nat} {m x : Int32} {j : Nat} {L : List Nat} {c : Nat} {μ0 : Mem} (h_it : μ0 it = some (.inr (10, [.int (nI j), .int x, .int m, .ref a]), t)) (hL : ALm Γ c a m L μ0) (hj : j ≤ L.length) : MetV l Γ yJ26_hasNext cJ26_hasNext 1 (some .boolean) 1 0 0 [.ref it] μ0 (PI (fun r μ1 => r = b2i (decide (j < L.length)) ∧ μ0 = μ1)) := by
  refine MetV.of (by decide +kernel) rfl ?_
  intro X sz hl hr hnm O
  subst hl
  obtain ⟨arr, cap, f, h_a, hA, hc1, hc2, hf⟩ := hL
  show V X Γ _ 1 _ 0 0 μ0 0 [(0, .ref it)] []
  refine v_aload_n (pc := 0) O dJ26_hasNext_0 rfl ?_
  refine v_getf (pc := 1) O ci10 h_it 0 rfl q644 (fun _ h => h) rfl dJ26_hasNext_1 ?_
  refine v_aload_n (pc := 4) O dJ26_hasNext_4 rfl ?_
  refine v_getf (pc := 5) O ci10 h_it 3 rfl q647 (fun _ h => h) rfl dJ26_hasNext_5 ?_
  refine v_getN (pc := 8) O ci9 h_a 2 rfl q126 (fun _ h => h) rfl dJ26_hasNext_8 ?_
  refine v_icmp_eq (pc := 11) (tgt := 18) O dJ26_hasNext_11 (by decide) (fun c_11 => ?_) (fun c_11 => ?_)
  · have hn : ¬ j < L.length := by have := (nI_eq (by omega) (by omega)).mp c_11; omega
    refine v_iconst (pc := 18) O (x := 0) dJ26_hasNext_18 (by decide) ?_
    exact v_zret (pc := 19) O hr (by omega) (by omega) dJ26_hasNext_19 rfl ⟨_, rfl, ⟨by simp [hn, b2i], rfl⟩⟩
  · have hn : j < L.length := by have : ¬ j = L.length := (fun z => c_11 (by rw [z])); omega
    refine v_iconst (pc := 14) O (x := 1) dJ26_hasNext_14 (by decide) ?_
    refine v_goto (pc := 15) O (tgt := 19) dJ26_hasNext_15 (by decide) ?_
    exact v_zret (pc := 19) O hr (by omega) (by omega) dJ26_hasNext_19 rfl ⟨_, rfl, ⟨by simp [hn, b2i], rfl⟩⟩
set_option maxHeartbeats 4000000 in
theorem jm_cfc (l : Launch) (Γ : Gm) {it a t : Nat} {m x j : Int32} {arr : Nat} {z : Int32} {c : Nat} {μ0 : Mem} (h_it : μ0 it = some (.inr (10, [.int j, .int x, .int m, .ref a]), t)) (h_a : μ0 a = some (.inr (9, [.int m, .ref arr, .int z]), c)) : MetV l Γ yJ26_checkForComodification cJ26_checkForComodification 1 none 1 0 0 [.ref it] μ0 (PV (fun μ1 => μ0 = μ1)) := by
  refine MetV.of (by decide +kernel) rfl ?_
  intro X sz hl hr hnm O
  subst hl
  show V X Γ _ 1 _ 0 0 μ0 0 [(0, .ref it)] []
  refine v_aload_n (pc := 0) O dJ26_checkForComodification_0 rfl ?_
  refine v_getf (pc := 1) O ci10 h_it 3 rfl q647 (fun _ h => h) rfl dJ26_checkForComodification_1 ?_
  refine v_getf (pc := 4) O ci9 h_a 0 rfl q129 (fun x9 h9 => u_same (O.hts _ q130) x9 h9) rfl dJ26_checkForComodification_4 ?_
  refine v_aload_n (pc := 7) O dJ26_checkForComodification_7 rfl ?_
  refine v_getf (pc := 8) O ci10 h_it 2 rfl q646 (fun _ h => h) rfl dJ26_checkForComodification_8 ?_
  refine v_icmp_eq (pc := 11) (tgt := 22) O dJ26_checkForComodification_11 (by decide) (fun _ => ?_) (fun c => absurd rfl c)
  exact v_vret (pc := 22) O hr (by omega) (by omega) dJ26_checkForComodification_22 ⟨rfl, rfl⟩
set_option maxHeartbeats 4000000 in
theorem jm_next (l : Launch) (Γ : Gm) {it a t : Nat} {m x : Int32} {j : Nat} {L : List Nat} {c : Nat} {μ0 : Mem} (h_it : μ0 it = some (.inr (10, [.int (nI j), .int x, .int m, .ref a]), t)) (hL : ALm Γ c a m L μ0) {v : Nat} (hv : L[j]? = some v) : MetV l Γ yJ26_next cJ26_next 3 (some (.object "java/lang/Object")) 2 0 0 [.ref it] μ0 (PR (fun r μ1 => r = v ∧ Put it (.inr (10, [.int (nI j), .int x, .int m, .ref a]), t) (.inr (10, [.int (nI (j + 1)), .int (nI j), .int m, .ref a]), t) μ0 μ1)) := by
  refine MetV.of (by decide +kernel) rfl ?_
  intro X sz hl hr hnm O
  subst hl
  obtain ⟨arr, cap, f, h_a, h_arr, hi, hc1, hc2, hf, hfv, hc3⟩ := hL.real hv
  have hPit := Put.id h_it
  show V X Γ _ 3 _ 0 0 μ0 0 [(0, .ref it)] []
  refine v_aload_n (pc := 0) O dJ26_next_0 rfl ?_
  refine v_callV (pc := 1) (nA := 0) O (jm_cfc (xL X) Γ h_it h_a) h_it rfl q685 q686 q687 q84 q688 (by decide +kernel) rfl rfl rfl rfl (Nat.le_of_ble_eq_true rfl) (by omega) (by omega) dJ26_next_1 (v_kV (fun μ9 h => ?_))
  subst h
  refine v_aload_n (pc := 4) O dJ26_next_4 rfl ?_
  refine v_getf (pc := 5) O ci10 h_it 0 rfl q644 (fun _ h => h) rfl dJ26_next_5 ?_
  refine v_istore_n (pc := 8) (lv' := [(1, .int (nI j)), (0, .ref it)]) O dJ26_next_8 rfl rfl ?_
  refine v_iload_n (pc := 9) O dJ26_next_9 rfl ?_
  refine v_aload_n (pc := 10) O dJ26_next_10 rfl ?_
  refine v_getf (pc := 11) O ci10 h_it 3 rfl q647 (fun _ h => h) rfl dJ26_next_11 ?_
  refine v_getN (pc := 14) O ci9 h_a 2 rfl q126 (fun _ h => h) rfl dJ26_next_14 ?_
  refine v_icmp_lt (pc := 17) (tgt := 28) O dJ26_next_17 (by decide) (fun _ => ?_) (fun c => absurd (nI_lt hi (by omega)) c)
  refine v_aload_n (pc := 28) O dJ26_next_28 rfl ?_
  refine v_getf (pc := 29) O ci10 h_it 3 rfl q647 (fun _ h => h) rfl dJ26_next_29 ?_
  refine v_getf (pc := 32) O ci9 h_a 1 rfl q125 (fun _ h => h) rfl dJ26_next_32 ?_
  refine v_astore_n (pc := 35) (lv' := [(2, .ref arr), (1, .int (nI j)), (0, .ref it)]) O dJ26_next_35 rfl rfl ?_
  refine v_iload_n (pc := 36) O dJ26_next_36 rfl ?_
  refine v_aload_n (pc := 37) O dJ26_next_37 rfl ?_
  refine v_alen (pc := 38) O 3 rfl h_arr (v := nI cap) rfl dJ26_next_38 ?_
  refine v_icmp_lt (pc := 39) (tgt := 50) O dJ26_next_39 (by decide) (fun _ => ?_) (fun c => absurd (nI_lt (show j < cap by omega) (by omega)) c)
  refine v_aload_n (pc := 50) O dJ26_next_50 rfl ?_
  refine v_iload_n (pc := 51) O dJ26_next_51 rfl ?_
  refine v_iconst (pc := 52) O (x := 1) dJ26_next_52 (by decide) ?_
  refine w_iadd (pc := 53) O (nI (j + 1)) (nI_1 _) dJ26_next_53 ?_
  refine w_put (pc := 54) O ci10 h_it 0 rfl q644 (fun _ h => h) rfl rfl rfl rfl dJ26_next_54 (fun μ pp => ?_)
  have h_a := pp.oth h_a (fun h => by cases h)
  have h_arr := pp.oth h_arr (fun h => by cases h)
  have h_it : μ it = some (.inr (10, [.int (nI (j + 1)), .int x, .int m, .ref a]), t) := pp.2.1
  have hPit := hPit.trans pp
  refine v_aload_n (pc := 57) O dJ26_next_57 rfl ?_
  refine v_aload_n (pc := 58) O dJ26_next_58 rfl ?_
  refine v_iload_n (pc := 59) O dJ26_next_59 rfl ?_
  refine v_dup_x1 (pc := 60) O dJ26_next_60 rfl rfl ?_
  refine w_put (pc := 61) O ci10 h_it 1 rfl q645 (fun _ h => h) rfl rfl rfl rfl dJ26_next_61 (fun μ pp => ?_)
  have h_a := pp.oth h_a (fun h => by cases h)
  have h_arr := pp.oth h_arr (fun h => by cases h)
  have h_it : μ it = some (.inr (10, [.int (nI (j + 1)), .int (nI j), .int m, .ref a]), t) := pp.2.1
  have hPit := hPit.trans pp
  refine w_aldq (pc := 64) O 3 rfl h_arr (vp_in_nI (by omega) (by omega)) (v := .ref v) (by rw [nI_clamp (show j < 2 ^ 31 by omega), hfv]; rfl) dJ26_next_64 ?_
  exact v_aret (pc := 65) O hr (Or.inl ⟨_, rfl⟩) (by omega) (by omega) dJ26_next_65 (Or.inr ⟨_, rfl⟩) ⟨v, rfl, ⟨rfl, hPit⟩⟩
theorem al_new {Γ : Gm} {c a : Nat} {m : Int32} {μ0 μ1 : Mem} (h : μ1 a = some (.inr (9, [.int m, .ref (Γ.2.2 257), .int 0]), c)) : ALm Γ c a m [] μ1 := ⟨_, 0, fun _ => none, h, Or.inl ⟨rfl, rfl⟩, Nat.le_refl _, by omega, fun j hj => absurd hj (Nat.not_lt_zero _)⟩
set_option maxHeartbeats 4000000 in
theorem jm_acInit (l : Launch) (Γ : Gm) {a : Nat} {c : Nat} {μ0 : Mem} (h_a : μ0 a = some (.inr (9, [.int 0, .null, .int 0]), c)) : MetV l Γ yJ0_init cJ0_init 1 none 1 0 0 [.ref a] μ0 (PV (fun μ1 => μ0 = μ1)) := by
  refine MetV.of (by decide +kernel) rfl ?_
  intro X sz hl hr hnm O
  subst hl
  show V X Γ _ 1 _ 0 0 μ0 0 [(0, .ref a)] []
  refine v_aload_n (pc := 0) O dJ0_init_0 rfl ?_
  refine v_objInit (pc := 1) O q121 q104 q105 rfl (Nat.le_of_ble_eq_true rfl) dJ0_init_1 ?_
  exact v_vret (pc := 4) O hr (by omega) (by omega) dJ0_init_4 ⟨rfl, rfl⟩
set_option maxHeartbeats 4000000 in
theorem jm_absInit (l : Launch) (Γ : Gm) {a : Nat} {c : Nat} {μ0 : Mem} (h_a : μ0 a = some (.inr (9, [.int 0, .null, .int 0]), c)) : MetV l Γ yJ1_init cJ1_init 1 none 2 0 0 [.ref a] μ0 (PV (fun μ1 => Put a (.inr (9, [.int 0, .null, .int 0]), c) (.inr (9, [.int 0, .null, .int 0]), c) μ0 μ1)) := by
  refine MetV.of (by decide +kernel) rfl ?_
  intro X sz hl hr hnm O
  subst hl
  have hPa := Put.id h_a
  show V X Γ _ 1 _ 0 0 μ0 0 [(0, .ref a)] []
  refine v_aload_n (pc := 0) O dJ1_init_0 rfl ?_
  refine v_callI (pc := 1) (nA := 0) O (jm_acInit (xL X) Γ h_a) q118 q119 q49 q120 rfl (by decide +kernel) rfl rfl rfl rfl (Nat.le_of_ble_eq_true rfl) (by omega) (by omega) dJ1_init_1 (v_kV (fun μ9 h => ?_))
  subst h
  refine v_aload_n (pc := 4) O dJ1_init_4 rfl ?_
  refine v_iconst (pc := 5) O (x := 0) dJ1_init_5 (by decide) ?_
  refine w_put (pc := 6) O ci9 h_a 0 rfl q128 (fun _ h => h) rfl rfl rfl rfl dJ1_init_6 (fun μ pp => ?_)
  have h_a : μ a = some (.inr (9, [.int 0, .null, .int 0]), c) := pp.2.1
  have hPa := hPa.trans pp
  exact v_vret (pc := 9) O hr (by omega) (by omega) dJ1_init_9 ⟨rfl, hPa⟩
set_option maxHeartbeats 4000000 in
theorem jm_alInit (l : Launch) (Γ : Gm) {a : Nat} {c : Nat} {μ0 : Mem} (h_a : μ0 a = some (.inr (9, [.int 0, .null, .int 0]), c)) : MetV l Γ yJ2_init cJ2_init 1 none 3 0 0 [.ref a] μ0 (PV (fun μ1 => ALP Γ c a 0 [] μ0 μ1)) := by
  refine MetV.of (by decide +kernel) rfl ?_
  intro X sz hl hr hnm O
  subst hl
  have hU : Upd c μ0 μ0 := Upd.rf
  have hi : ∀ y, isO μ0 y → isO μ0 y := fun _ h => h
  show V X Γ _ 1 _ 0 0 μ0 0 [(0, .ref a)] []
  refine v_aload_n (pc := 0) O dJ2_init_0 rfl ?_
  refine v_callI (pc := 1) (nA := 0) O (jm_absInit (xL X) Γ h_a) q115 q116 q50 q117 rfl (by decide +kernel) rfl rfl rfl rfl (Nat.le_of_ble_eq_true rfl) (by omega) (by omega) dJ2_init_1 (v_kV (fun μ h => ?_))
  have hi := fun y9 h9 => h.isOr (hi y9 h9)
  have h_a : μ a = some (.inr (9, [.int 0, .null, .int 0]), c) := h.2.1
  have hU := hU.trans (h.upd rfl rfl)
  refine v_aload_n (pc := 4) O dJ2_init_4 rfl ?_
  refine w_getE (pc := 5) O q122 dJ2_init_5 ?_
  refine w_put (pc := 8) O ci9 h_a 1 rfl q124 (fun _ h => h) rfl rfl rfl rfl dJ2_init_8 (fun μ pp => ?_)
  have hi := fun y9 h9 => pp.isOr (hi y9 h9)
  have h_a : μ a = some (.inr (9, [.int 0, .ref (Γ.2.2 257), .int 0]), c) := pp.2.1
  have hU := hU.trans (pp.upd rfl rfl)
  exact v_vret (pc := 11) O hr (by omega) (by omega) dJ2_init_11 ⟨rfl, ⟨al_new (μ0 := μ0) h_a, hU, hi⟩⟩
set_option maxHeartbeats 4000000 in
theorem jm_alInit2 (l : Launch) (Γ : Gm) {a : Nat} {c : Nat} {μ0 : Mem} (h_a : μ0 a = some (.inr (9, [.int 0, .null, .int 0]), c)) : MetV l Γ yJ2_init_2 cJ2_init_2 2 none 3 1 2 [.ref a, .int 2] μ0 (PV (fun μ1 => ALP Γ c a 0 [] μ0 μ1)) := by
  refine MetV.of (by decide +kernel) rfl ?_
  intro X sz hl hr hnm O
  subst hl
  have hU : Upd c μ0 μ0 := Upd.rf
  have hi : ∀ y, isO μ0 y → isO μ0 y := fun _ h => h
  show V X Γ _ 2 _ 0 0 μ0 0 [(0, .ref a), (1, .int 2)] []
  refine v_aload_n (pc := 0) O dJ2_init_2_0 rfl ?_
  refine v_callI (pc := 1) (nA := 0) O (jm_absInit (xL X) Γ h_a) q115 q116 q50 q117 rfl (by decide +kernel) rfl rfl rfl rfl (Nat.le_of_ble_eq_true rfl) (by omega) (by omega) dJ2_init_2_1 (v_kV (fun μ h => ?_))
  have hi := fun y9 h9 => h.isOr (hi y9 h9)
  have h_a : μ a = some (.inr (9, [.int 0, .null, .int 0]), c) := h.2.1
  have hU := hU.trans (h.upd rfl rfl)
  refine v_iload_n (pc := 4) O dJ2_init_2_4 rfl ?_
  refine v_if_le (pc := 5) (tgt := 19) O dJ2_init_2_5 (by decide) (fun c => absurd c (by decide)) (fun _ => ?_)
  refine v_aload_n (pc := 8) O dJ2_init_2_8 rfl ?_
  refine v_iload_n (pc := 9) O dJ2_init_2_9 rfl ?_
  refine w_newq (pc := 10) O c 3 rfl q168 (by decide) 2 (by decide) (by decide) (by decide) (by omega) (by omega) dJ2_init_2_10 (fun q10 μ pp => ?_)
  have h_a := pp.oth h_a
  have hi := fun y9 h9 => pp.isO (hi y9 h9)
  have h_q10 : μ q10 = some (.inl (Γ.2.1 3, 2, .inr (.inr (.inr (.inr (fun _ => none))))), c) := pp.2.1
  have hU := hU.trans (pp.upd rfl)
  refine w_put (pc := 13) O ci9 h_a 1 rfl q124 (fun _ h => h) rfl rfl rfl rfl dJ2_init_2_13 (fun μ pp => ?_)
  have h_q10 := pp.oth h_q10 (fun h => by cases h)
  have hi := fun y9 h9 => pp.isOr (hi y9 h9)
  have h_a : μ a = some (.inr (9, [.int 0, .ref q10, .int 0]), c) := pp.2.1
  have hU := hU.trans (pp.upd rfl rfl)
  refine v_goto (pc := 16) O (tgt := 60) dJ2_init_2_16 (by decide) ?_
  exact v_vret (pc := 60) O hr (by omega) (by omega) dJ2_init_2_60 ⟨rfl, ALP.mk2 h_a rfl h_q10 (by omega) (Nat.zero_le _) (by omega) (fun j hj => absurd hj (Nat.not_lt_zero _)) hU hi⟩

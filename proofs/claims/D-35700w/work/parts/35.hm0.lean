/-! HashMap: what its memory holds (raw), and what is pure. Keys are Spots of numbers below 32; bk: the bucket -/
set_option maxRecDepth 100000
def hsh (k : Nat) : Int32 := nI (31 * k + 7)
def bk (k cap : Nat) : Nat := (31 * k + 7) % cap
abbrev HS : Type := Nat × Nat × (Nat → Option Nat) × (Nat → Option Nat) × (Nat → Nat) × (Nat → Nat) × (Nat → Nat) × (Nat → Bool) × (Nat → List Nat)
def HS.cap (S : HS) : Nat := S.1
def HS.tb (S : HS) : Nat := S.2.1
def HS.hd (S : HS) : Nat → Option Nat := S.2.2.1
def HS.nx (S : HS) : Nat → Option Nat := S.2.2.2.1
def HS.nd (S : HS) : Nat → Nat := S.2.2.2.2.1
def HS.sp (S : HS) : Nat → Nat := S.2.2.2.2.2.1
def HS.vl (S : HS) : Nat → Nat := S.2.2.2.2.2.2.1
def HS.P (S : HS) : Nat → Bool := S.2.2.2.2.2.2.2.1
def HS.B (S : HS) : Nat → List Nat := S.2.2.2.2.2.2.2.2
/-- a chain of keys -/
def Path (nx : Nat → Option Nat) : Option Nat → List Nat → Prop
  | h, [] => h = none
  | h, k :: r => h = some k ∧ Path nx (nx k) r
def nodeC (S : HS) (c k : Nat) (nxt : Value) : va_E × Nat := (.inr (12, [.int (hsh k), .ref (S.sp k), .ref (S.vl k), nxt]), c)
def HN (Γ : Gm) (c : Nat) (S : HS) (μ : Mem) : Prop :=
  (∃ f : Nat → Option Nat, μ S.tb = some (.inl (Γ.2.1 6, S.cap, .inr (.inr (.inr (.inr f)))), c) ∧ ∀ j, j < S.cap → f j = (S.hd j).map S.nd) ∧
  ∀ k, S.P k = true → μ (S.nd k) = some (nodeC S c k (va_rf ((S.nx k).map S.nd))) ∧ μ (S.sp k) = some (.inr (6, [.int (nI k)]), 1)
def HPs (S : HS) : Prop :=
  (∃ e, 1 ≤ e ∧ e ≤ 6 ∧ S.cap = 2 ^ e) ∧ (∀ k, S.P k = true → k < 32) ∧
  ∀ j, j < S.cap → Path S.nx (S.hd j) (S.B j) ∧ (S.B j).Nodup ∧ ∀ k, k ∈ S.B j ↔ (S.P k = true ∧ bk k S.cap = j)
def HTb (Γ : Gm) (c : Nat) (S : HS) (tab : Option Nat) (μ : Mem) : Prop := (tab = none ∧ ∀ k, S.P k = false) ∨ (tab = some S.tb ∧ HN Γ c S μ ∧ HPs S)
theorem HPs.cap {S : HS} (h : HPs S) : 2 ≤ S.cap ∧ S.cap ≤ 64 := by
  obtain ⟨⟨e, h1, h2, h3⟩, -⟩ := h
  rw [h3]
  have : ∀ e : Fin 7, 1 ≤ e.val → 2 ≤ 2 ^ e.val ∧ 2 ^ e.val ≤ 64 := by decide
  exact this ⟨e, by omega⟩ h1
theorem bk_lt {S : HS} (h : HPs S) (k : Nat) : bk k S.cap < S.cap := Nat.mod_lt _ (by have := h.cap; omega)
theorem bk_ands : ∀ e : Fin 7, 1 ≤ e.val → ∀ k : Fin 32, nI (2 ^ e.val - 1) &&& hsh k.val = nI (bk k.val (2 ^ e.val)) := by decide +kernel
theorem bk_and {S : HS} (h : HPs S) {k : Nat} (hk : k < 32) : nI (S.cap - 1) &&& hsh k = nI (bk k S.cap) := by
  obtain ⟨⟨e, h1, h2, h3⟩, -⟩ := h
  rw [h3]
  exact bk_ands ⟨e, by omega⟩ h1 ⟨k, hk⟩
theorem hsh_inj {k j : Nat} (hk : k < 32) (hj : j < 32) (h : hsh k = hsh j) : k = j := by
  unfold hsh at h
  have := (nI_eq (a := 31 * k + 7) (b := 31 * j + 7) (by omega) (by omega)).mp h
  omega
theorem hsh_xs : ∀ k : Fin 32, hsh k.val ^^^ ((hsh k.val).toUInt32 >>> ((16 : Int32).toUInt32 &&& Int32.toUInt32 31)).toInt32 = hsh k.val := by decide +kernel
theorem hsh_x {k : Nat} (hk : k < 32) : hsh k ^^^ ((hsh k).toUInt32 >>> ((16 : Int32).toUInt32 &&& Int32.toUInt32 31)).toInt32 = hsh k := hsh_xs ⟨k, hk⟩
theorem hsh_ofs : ∀ k : Fin 32, 31 * nI k.val + 7 = hsh k.val := by decide +kernel
theorem hsh_of {k : Nat} (hk : k < 32) : 31 * nI k + 7 = hsh k := hsh_ofs ⟨k, hk⟩
theorem Path.nil {nx : Nat → Option Nat} {l : List Nat} (h : Path nx none l) : l = [] := by
  cases l with
  | nil => rfl
  | cons k r => exact absurd h.1 (fun z => by cases z)
theorem Path.cons {nx : Nat → Option Nat} {k : Nat} {l : List Nat} (h : Path nx (some k) l) : ∃ r, l = k :: r ∧ Path nx (nx k) r := by
  cases l with
  | nil => exact absurd (show some k = none from h) (fun z => by cases z)
  | cons k' r =>
    obtain ⟨h1, h2⟩ := h
    cases h1
    exact ⟨r, rfl, h2⟩
theorem HPs.in {S : HS} (h : HPs S) {k : Nat} : k ∈ S.B (bk k S.cap) ↔ S.P k = true := by
  rw [(h.2.2 _ (bk_lt h k)).2.2 k]
  exact ⟨fun z => z.1, fun z => ⟨z, rfl⟩⟩
section HMR
variable {X : Cx} {Γ : Gm} {A : Nat → Prop} {cc : ByteArray} {nL : Nat} {own : String} {F MC MS : Nat} {Q : State → Prop} {k n : Nat} {μ : Mem} {pc : Nat} {lv : List (Nat × Value)} {st : List Value} {idx a : Nat}
theorem w_imul (O : Ok X Γ A cc nL own F MC MS) {x y : Int32} (z : Int32) (hz : x * y = z) (hd : decode cc pc = .ok (.imul, 1)) (kk : V X Γ A nL Q k n μ (pc + 1) lv (.int z :: st)) : V X Γ A nL Q k n μ pc lv (.int y :: .int x :: st) := v_imul O hd (by rw [hz]; exact kk)
theorem w_ixor (O : Ok X Γ A cc nL own F MC MS) {x y : Int32} (z : Int32) (hz : x ^^^ y = z) (hd : decode cc pc = .ok (.ixor, 1)) (kk : V X Γ A nL Q k n μ (pc + 1) lv (.int z :: st)) : V X Γ A nL Q k n μ pc lv (.int y :: .int x :: st) := v_ixor O hd (by rw [hz]; exact kk)
theorem w_iushr (O : Ok X Γ A cc nL own F MC MS) {x y : Int32} (z : Int32) (hz : (x.toUInt32 >>> (y.toUInt32 &&& Int32.toUInt32 31)).toInt32 = z) (hd : decode cc pc = .ok (.iushr, 1)) (kk : V X Γ A nL Q k n μ (pc + 1) lv (.int z :: st)) : V X Γ A nL Q k n μ pc lv (.int y :: .int x :: st) := v_iushr O hd hz kk
theorem w_instN (O : Ok X Γ A cc nL own F MC MS) {tg : Nat} {fs : List Value} (hr : μ a = some (.inr (12, fs), tg)) (hl : Cond.classLink own idx "java/util/HashMap$TreeNode" ∈ lw_all) (hd : decode cc pc = .ok (.instanceof idx, 3)) (kk : V X Γ A nL Q k n μ (pc + 3) lv (.int 0 :: st)) : V X Γ A nL Q k n μ pc lv (.ref a :: st) := fun H locs ls hG hS hM hlv => by
  obtain ⟨q0, he⟩ := wl_at (n := H.size) (hG.lt hr) hr
  exact va_instNo (C := "java/util/HashMap$Node") O.hx O.hb O.hown (O.hts _ hl) (O.KK.2.1.2.2.2 _ (show ("java/util/HashMap$Node", "java/util/HashMap$TreeNode") ∈ ncAll from List.mem_cons_self)) (va_recv O.KK.1 (hG.P _) (show vwAll[12]? = some (RJ27, TJ27, 4) from rfl) he) hd (kk H locs ls hG hS hM hlv)
theorem w_instS (O : Ok X Γ A cc nL own F MC MS) {ci tg : Nat} {fs : List Value} {C : String} {TT : u_T} {NN : Nat} (hr : μ a = some (.inr (ci, fs), tg)) (hci : vwAll[ci]? = some (C, TT, NN)) (hl : Cond.classLink own idx C ∈ lw_all) (hd : decode cc pc = .ok (.instanceof idx, 3)) (kk : V X Γ A nL Q k n μ (pc + 3) lv (.int 1 :: st)) : V X Γ A nL Q k n μ pc lv (.ref a :: st) := fun H locs ls hG hS hM hlv => by
  obtain ⟨q0, he⟩ := wl_at (n := H.size) (hG.lt hr) hr
  exact va_instS O.hx O.hb O.hown (O.hts _ hl) (O.KK.1.1 ci _ hci).2 (va_recv O.KK.1 (hG.P _) hci he) hd (kk H locs ls hG hS hM hlv)
theorem w_castS (O : Ok X Γ A cc nL own F MC MS) {ci tg : Nat} {fs : List Value} {C : String} {TT : u_T} {NN : Nat} (hr : μ a = some (.inr (ci, fs), tg)) (hci : vwAll[ci]? = some (C, TT, NN)) (hl : Cond.classLink own idx C ∈ lw_all) (hd : decode cc pc = .ok (.checkcast idx, 3)) (kk : V X Γ A nL Q k n μ (pc + 3) lv (.ref a :: st)) : V X Γ A nL Q k n μ pc lv (.ref a :: st) := fun H locs ls hG hS hM hlv => by
  obtain ⟨q0, he⟩ := wl_at (n := H.size) (hG.lt hr) hr
  exact va_castS O.hx O.hb O.hown (O.hts _ hl) (O.KK.1.1 ci _ hci).2 (va_recv O.KK.1 (hG.P _) hci he) hd (kk H locs ls hG hS hM hlv)
/-- a node into the table -/
theorem w_astn (O : Ok X Γ A cc nL own F MC MS) {N t : Nat} {f : Nat → Option Nat} {i : Int32} {v tv : Nat} {fs : List Value} (hμ : μ a = some (.inl (Γ.2.1 6, N, .inr (.inr (.inr (.inr f)))), t)) (hv : μ v = some (.inr (12, fs), tv)) (hi : vp_in i N) (hd : decode cc pc = .ok (.aastore, 1)) (kk : ∀ μ', Put a (.inl (Γ.2.1 6, N, .inr (.inr (.inr (.inr f)))), t) (.inl (Γ.2.1 6, N, .inr (.inr (.inr (.inr (va_up f i.toNatClampNeg (some v)))))), t) μ μ' → V X Γ A nL Q k n μ' (pc + 1) lv st) : V X Γ A nL Q k n μ pc lv (.ref v :: .int i :: .ref a :: st) :=
  v_astq O 6 rfl hμ hv (show vwAll[12]? = some (RJ27, TJ27, 4) from rfl) vb_asgS hi hd (kk _ (Put.of hμ))
end HMR

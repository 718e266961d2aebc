/-! Integers: an object, or one of the cache -/
def IntAt (Γ : Gm) (μ : Mem) (y : Nat) (v : Int32) : Prop := μ y = some (.inr (17, [.int v]), 1) ∨ ∃ j, j < 256 ∧ y = Γ.2.2 j ∧ v = vb_c j
theorem IntAt.upd {Γ : Gm} {c y : Nat} {v : Int32} {μ μ' : Mem} (h : IntAt Γ μ y v) (hU : Upd c μ μ') (hc : 1 ≠ c) : IntAt Γ μ' y v := h.imp (fun h => hU.to h hc) id
theorem IntAt.new {Γ : Gm} {a y : Nat} {v : Int32} {e : va_E × Nat} {μ μ' : Mem} (h : IntAt Γ μ y v) (pp : New a e μ μ') : IntAt Γ μ' y v := h.imp (fun h => pp.oth h) id
section INTR
variable {X : Cx} {Γ : Gm} {A : Nat → Prop} {cc : ByteArray} {nL : Nat} {own : String} {F MC MS : Nat} {Q : State → Prop} {k n : Nat} {μ : Mem} {pc : Nat} {lv : List (Nat × Value)} {st : List Value} {idx y : Nat} {v : Int32}
theorem w_intv (O : Ok X Γ A cc nL own F MC MS) (h : IntAt Γ μ y v) (hq : Cond.fieldLink own idx "java/lang/Integer" "value" "I" ∈ lw_all) (hd : decode cc pc = .ok (.getfield idx, 3)) (kk : V X Γ A nL Q k n μ (pc + 3) lv (.int v :: st)) : V X Γ A nL Q k n μ pc lv (.ref y :: st) := by
  rcases h with h | ⟨j, hj, rfl, rfl⟩
  · exact v_getf O ci17 h 0 rfl hq (fun _ h => h) rfl hd kk
  · exact fun H locs ls hG hS hM hl => va_getX (i := j) (v := fun k => .int (vb_c k)) O.hx O.hb O.KK.2.2.2.2.2.2.1.2 hj hS O.hown (O.hts _ hq) (fun _ h => h) hd (kk H locs ls hG hS hM hl)
end INTR

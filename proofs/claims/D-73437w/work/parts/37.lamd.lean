/-! lambda objects in the pure functions -/
/-- the lambda object at a code: its site, what it captured -/
def xlm (L : xL) (r : xR) (c : Nat) : Option (Nat × List xV) := if 280 ≤ c ∧ c < 296 then some (c - 280, []) else match xdl L r c with
  | some (.inr (.inr o)) => some o
  | _ => none
theorem xlm_rd {L : xL} {ms : xS} {r : xR} {c k : Nat} {caps : List xV} (h : xlm L r c = some (k, caps)) : xRd L (ms, r) c (.inr (.inr (k, caps))) := by
  unfold xlm at h
  split at h
  · rename_i hc
    have h2 := Prod.mk.inj (Option.some.inj h)
    obtain ⟨h3, h4⟩ := h2
    subst h3
    subst h4
    refine Or.inr ?_
    unfold xKc
    rw [if_neg (by omega), if_neg (by omega), if_pos hc]
  · split at h
    · rename_i o ho
      cases h
      exact Or.inl (xdl_cell ho).1
    · cases h
section XId
variable {L : xL} {y : MethodName} {cc : ByteArray} {nL : Nat} {ret : Option FieldType} {d lo pc : Nat} {lv : List (Option xV)} {st : List xV} {ms : xS} {r : xR} {v : Option xV} {w1 : xW} {ρ : Type} {rr : ρ}
theorem d_indyM {k ix : Nat} {σ : Lambda.Shape} {vals : List xV} (rest : List xV) {T : Array FieldType} {K : Nat → xR → Option ρ} {n : Nat} (pn : Nat) (hp : pc + 5 = pn) (hd : decode cc pc = .ok (.invokedynamic ix, 5)) (hk : k < 16) (hs : siteWords_1[k]? = some (.lambdaSite y pc ix σ)) (hy : y.cls = "UnimodularTables") (hcap : σ.captured ≠ []) (hfit : lm_fits σ.captured vals = true)
    (hlay : ((σ.file "UnimodularTables").bind (layoutFields · 0)).map (·.2.1) = some T) (hT : T.toList = σ.captured) (hn : n = vals.length) (hroom : (st.map xw).sum + 3072 ≤ lo) (hst : st = vals.reverse ++ rest) (h : al L r (.inr (.inr (k, vals))) n K = some rr)
    (kk : ∀ (a : Nat) (r' : xR), K a r' = some rr → xB L y cc nL ret d lo pn lv ((.inr (.inr (some a)) : xV) :: rest) (ms, r') v w1) : xB L y cc nL ret d lo pc lv st (ms, r) v w1 := by
  subst hn
  obtain ⟨h1, h2⟩ := al_inv h
  exact x_indyM pn hp hd hk hs hy hcap hfit hlay hT h1 hroom hst (kk _ _ h2)
end XId

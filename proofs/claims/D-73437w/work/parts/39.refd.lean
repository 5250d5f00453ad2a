/-! the pure functions' words for arrays of references -/
def dwr {ρ : Type} (L : xL) (r : xR) (a : Nat) (i : Int32) (o : Option Nat) (K : xR → Option ρ) : Option ρ := match xdl L r a with
  | some (.inl (t, n, .inr (.inr f))) => if xin i n = true ∧ (4 ≤ t ∧ t < 10) ∧ xas L r t o = true then K (xds r a (.inl (t, n, .inr (.inr (fun j => if j = i.toNatClampNeg then o else f j))))) else none
  | _ => none
/-- undos[i] = o -/
def quw {ρ : Type} (r : xR) (i : Int32) (o : Option Nat) (K : xR → Option ρ) : Option ρ := if xin i 40 = true ∧ xas xLL r 4 o = true then K ((r.1.1, r.1.2.1, xuP r.1.2.2 6 i.toNatClampNeg o), r.2) else none
/-- System.arraycopy(undos, 1, undos, 0, 39) -/
def qus {ρ : Type} (r : xR) (K : xR → Option ρ) : Option ρ := if (List.range 39).all (fun i => xas xLL r 4 (r.1.2.2 6 (1 + i))) = true then K ((r.1.1, r.1.2.1, fun a b => if a = 6 then va_cpy (r.1.2.2 6) (r.1.2.2 6) 1 0 39 b else r.1.2.2 a b), r.2) else none
section XRd
variable {L : xL} {y : MethodName} {cc : ByteArray} {nL : Nat} {ret : Option FieldType} {d lo pc : Nat} {lv : List (Option xV)} {st : List xV} {ms : xS} {r : xR} {v : Option xV} {w1 : xW} {ρ : Type} {rr : ρ}
theorem xas_use {t : Nat} {o : Option Nat} (h : xas L r t o = true) : ∀ b, o = some b → ∀ (l : Launch) (g : xG) (s : State) (H : Heap), xGok l g → xKf g s → xSim g L (ms, r) H → xty t = .object (xEn t) ∧ xrf s H (xEn t) (xad g b) := by
  intro b hb l g s H hG hK hS
  subst hb
  have := xas_ok h hG hK hS
  exact ⟨this.1, this.2.2⟩
theorem d_aast {a : Nat} {i : Int32} {o : Option Nat} (pn : Nat) (hp : pc + 1 = pn) (hd : decode cc pc = .ok (.aastore, 1)) {K : xR → Option ρ} (h : dwr L r a i o K = some rr) (kk : ∀ r', K r' = some rr → xB L y cc nL ret d lo pn lv st (ms, r') v w1) : xB L y cc nL ret d lo pc lv ((.inr (.inr o) : xV) :: (.inl i : xV) :: (.inr (.inr (some a)) : xV) :: st) (ms, r) v w1 := by
  unfold dwr at h
  split at h
  · rename_i t n f h1
    split at h
    · rename_i hc
      exact x_aast (w' := (ms, xds r a _)) pn hp hd (xdl_cell h1).1 hc.1 hc.2.1 (xas_use hc.2.2) rfl rfl (xds_cell (xdl_cell (ms := ms) h1).2) (kk _ h)
    · cases h
  · cases h
theorem q_aast {i : Int32} {o : Option Nat} (pn : Nat) (hp : pc + 1 = pn) (hd : decode cc pc = .ok (.aastore, 1)) {K : xR → Option ρ} (h : quw r i o K = some rr) (kk : ∀ r', K r' = some rr → xB xLL y cc nL ret d lo pn lv st (ms, r') v w1) : xB xLL y cc nL ret d lo pc lv ((.inr (.inr o) : xV) :: (.inl i : xV) :: (.inr (.inr (some 306)) : xV) :: st) (ms, r) v w1 := by
  unfold quw at h
  split at h
  · rename_i hc
    refine x_aast (w' := (ms, ((r.1.1, r.1.2.1, xuP r.1.2.2 6 i.toNatClampNeg o), r.2))) pn hp hd xcell_Xu hc.1 (by decide) (xas_use hc.2) rfl rfl ?_ (kk _ h)
    refine xcell_Xw (ms := ms) (r := r) (s' := (r.1.1, r.1.2.1, xuP r.1.2.2 6 i.toNatClampNeg o)) (t := 6) (by decide) (fun a _ => rfl) (fun a _ => rfl) (fun a ha => by funext b; simp [xuP, ha]) ?_
    refine (xcell_Xu (ms := ms) (r := ((r.1.1, r.1.2.1, xuP r.1.2.2 6 i.toNatClampNeg o), r.2))).trans ?_
    congr 5
  · cases h
theorem q_ushift {ix : Nat} (pn : Nat) (hp : pc + 3 = pn) (hd : decode cc pc = .ok (.invokestatic ix, 3)) (hlink : Cond.methodLink y.cls ix arraycopyName ∈ lw_all) (hnat : Cond.native arraycopyName ∈ lw_all) (hstat : Cond.static arraycopyName ∈ lw_all) (hini : Cond.initialized "java/lang/System" ∈ lw_all) (hroom : 1 ≤ d ∧ (st.map xw).sum + (nativeFrameWords "java/lang/System" "arraycopy" 5 + 11) ≤ lo) {K : xR → Option ρ} (h : qus r K = some rr)
    (kk : ∀ r', K r' = some rr → xB xLL y cc nL ret d lo pn lv st (ms, r') v w1) : xB xLL y cc nL ret d lo pc lv ((.inl 39 : xV) :: (.inl 0 : xV) :: (.inr (.inr (some 306)) : xV) :: (.inl 1 : xV) :: (.inr (.inr (some 306)) : xV) :: st) (ms, r) v w1 := by
  unfold qus at h
  split at h
  · rename_i hc
    refine x_copyR (w' := (ms, ((r.1.1, r.1.2.1, fun a b => if a = 6 then va_cpy (r.1.2.2 6) (r.1.2.2 6) 1 0 39 b else r.1.2.2 a b), r.2))) pn hp hd hlink hnat hstat hini xcell_Xu xcell_Xu (by decide) (by decide) (by decide) (by decide) (by decide) (by decide) (by decide) (fun i b hi hb => ?_) hroom rfl rfl ?_ (kk _ h)
    · have h1 := List.all_eq_true.mp hc i (List.mem_range.mpr (show i < 39 from hi))
      have hb' : r.1.2.2 6 (1 + i) = some b := hb
      exact xas_use h1 b hb'
    · refine xcell_Xw (ms := ms) (r := r) (s' := (r.1.1, r.1.2.1, fun a b => if a = 6 then va_cpy (r.1.2.2 6) (r.1.2.2 6) 1 0 39 b else r.1.2.2 a b)) (t := 6) (by decide) (fun a _ => rfl) (fun a _ => rfl) (fun a ha => by funext b; simp [ha]) ?_
      exact xcell_Xu (ms := ms) (r := ((r.1.1, r.1.2.1, fun a b => if a = 6 then va_cpy (r.1.2.2 6) (r.1.2.2 6) 1 0 39 b else r.1.2.2 a b), r.2))
  · cases h
end XRd

/-! LAYER 0: rows on the system's static cells and on the dyn heap (printed by gen/mk_x.py) -/
section XInv
variable {ρ : Type} {L : xL} {r : xR} {rr : ρ}
theorem dgi_inv {a ci k : Nat} {K : Int32 → Option ρ} (h : dgi L r a ci k K = some rr) : ∃ V x, xdl L r a = some (.inr (.inl (ci, V))) ∧ V k = .inl x ∧ K x = some rr := by
  unfold dgi at h
  split at h
  · rename_i q hq
    split at h
    · rename_i hc
      split at h
      · rename_i x hx
        exact ⟨q.2, x, by rw [hq, ← hc], hx, h⟩
      · cases h
    · cases h
  · cases h
theorem dgr_inv {a ci k : Nat} {K : Option Nat → Option ρ} (h : dgr L r a ci k K = some rr) : ∃ V x, xdl L r a = some (.inr (.inl (ci, V))) ∧ V k = .inr (.inr x) ∧ K x = some rr := by
  unfold dgr at h
  split at h
  · rename_i q hq
    split at h
    · rename_i hc
      split at h
      · rename_i x hx
        exact ⟨q.2, x, by rw [hq, ← hc], hx, h⟩
      · cases h
    · cases h
  · cases h
theorem dpv_inv {a ci k : Nat} {x : xV} {K : xR → Option ρ} (h : dpv L r a ci k x K = some rr) : ∃ V, xdl L r a = some (.inr (.inl (ci, V))) ∧ K (xds r a (.inr (.inl (ci, fun j => if j = k then x else V j)))) = some rr := by
  unfold dpv at h
  split at h
  · rename_i q hq
    split at h
    · rename_i hc
      exact ⟨q.2, by rw [hq, ← hc], h⟩
    · cases h
  · cases h
theorem dai_inv {a : Nat} {i : Int32} {K : Int32 → Option ρ} (h : dai L r a i K = some rr) : ∃ n f, xdl L r a = some (.inl (0, n, .inl f)) ∧ xin i n = true ∧ K (f i.toNatClampNeg) = some rr := by
  unfold dai at h
  split at h
  · rename_i n f hq
    split at h
    · rename_i hc
      exact ⟨n, f, hq, hc, h⟩
    · cases h
  · cases h
theorem daw_inv {a : Nat} {i x : Int32} {K : xR → Option ρ} (h : daw L r a i x K = some rr) : ∃ n f, xdl L r a = some (.inl (0, n, .inl f)) ∧ xin i n = true ∧ K (xds r a (.inl (0, n, .inl (fun j => if j = i.toNatClampNeg then x else f j)))) = some rr := by
  unfold daw at h
  split at h
  · rename_i n f hq
    split at h
    · rename_i hc
      exact ⟨n, f, hq, hc, h⟩
    · cases h
  · cases h
theorem dar_inv {a : Nat} {i : Int32} {K : Option Nat → Option ρ} (h : dar L r a i K = some rr) : ∃ t n f, xdl L r a = some (.inl (t, n, .inr (.inr f))) ∧ (3 ≤ t ∧ t < 10) ∧ xin i n = true ∧ K (f i.toNatClampNeg) = some rr := by
  unfold dar at h
  split at h
  · rename_i t n f hq
    split at h
    · rename_i hc
      exact ⟨t, n, f, hq, ⟨hc.1, hc.2.1⟩, hc.2.2, h⟩
    · cases h
  · cases h
theorem dln_inv {a : Nat} {K : Int32 → Option ρ} (h : dln L r a K = some rr) : ∃ t n ct, xdl L r a = some (.inl (t, n, ct)) ∧ t < 10 ∧ K n.toInt32 = some rr := by
  unfold dln at h
  split at h
  · rename_i t n ct hq
    split at h
    · rename_i hc
      exact ⟨t, n, ct, hq, hc, h⟩
    · cases h
  · cases h
end XInv
def xdefV (ty : Nat → FieldType) (k : Nat) : xV := match ty k with
  | .long => .inr (.inl 0)
  | .object _ => .inr (.inr none)
  | .array _ => .inr (.inr none)
  | _ => .inl 0
def xdok (t : FieldType) : Bool := match t with
  | .float => false
  | .double => false
  | _ => true
theorem xdefV_ok {ty : Nat → FieldType} {k : Nat} (h : xdok (ty k) = true) (g : xG) : defaultValue (ty k) = xvv g (xdefV ty k) := by
  unfold xdefV
  cases ht : ty k <;> rw [ht] at h <;> first | rfl | cases h
def al {ρ : Type} (L : xL) (r : xR) (e : xE) (n : Nat) (K : Nat → xR → Option ρ) : Option ρ := if (L (300 + r.2.2.1)).isNone = true then K (300 + r.2.2.1) (xal r e n) else none
theorem al_inv {ρ : Type} {L : xL} {r : xR} {rr : ρ} {e : xE} {n : Nat} {K : Nat → xR → Option ρ} (h : al L r e n K = some rr) : L (300 + r.2.2.1) = none ∧ K (300 + r.2.2.1) (xal r e n) = some rr := by
  unfold al at h
  split at h
  · rename_i hc
    exact ⟨by simpa using hc, h⟩
  · cases h
def ali {ρ : Type} (L : xL) (r : xR) (n : Int32) (K : Nat → xR → Option ρ) : Option ρ := if ¬ n < 0 ∧ n.toNatClampNeg ≤ 65536 then al L r (.inl (0, n.toNatClampNeg, .inl (fun _ => 0))) n.toNatClampNeg K else none
/-- an array of int arrays -/
def xam (r : xR) (n m : Nat) : xR := (r.1, (fun q => if q = 300 + r.2.2.1 then some (.inl (3, n, .inr (.inr (fun j => some (301 + r.2.2.1 + j))))) else if 300 + r.2.2.1 < q ∧ q ≤ 300 + r.2.2.1 + n then some (.inl (0, m, .inl (fun _ => 0))) else r.2.1 q), r.2.2.1 + 1 + n, r.2.2.2 + n + n * m)
def alm {ρ : Type} (L : xL) (r : xR) (n m : Int32) (K : Nat → xR → Option ρ) : Option ρ := if ¬ n < 0 ∧ ¬ m < 0 ∧ n.toNatClampNeg ≤ 64 ∧ m.toNatClampNeg ≤ 64 ∧ (List.range (n.toNatClampNeg + 1)).all (fun q => (L (300 + r.2.2.1 + q)).isNone) = true then K (300 + r.2.2.1) (xam r n.toNatClampNeg m.toNatClampNeg) else none
def blr {ρ : Type} (r : xR) (b : Nat) (i : Int32) (K : Int64 → Option ρ) : Option ρ := if xbs b = true ∧ xin i 1 = true then K (r.1.2.1 (b + 1) i.toNatClampNeg) else none
def blw {ρ : Type} (r : xR) (b : Nat) (i : Int32) (x : Int64) (K : xR → Option ρ) : Option ρ := if xbs b = true ∧ xin i 1 = true then K ((r.1.1, xuJ r.1.2.1 (b + 1) i.toNatClampNeg x, r.1.2.2), r.2) else none
section XR1
variable {L : xL} {y : MethodName} {cc : ByteArray} {nL : Nat} {ret : Option FieldType} {d lo pc : Nat} {lv : List (Option xV)} {st : List xV} {ms : xS} {r : xR} {v : Option xV} {w1 : xW} {ρ : Type} {rr : ρ}
theorem x_nn {o : Option Nat} {K : Nat → Option ρ} {P : Prop} (h : nn o K = some rr) (kk : ∀ a, o = some a → K a = some rr → P) : P := by
  cases o with
  | none => cases h
  | some a => exact kk a rfl h
theorem x_gok {g : Nat} {K : Option ρ} {P : Prop} (h : gok g K = some rr) (kk : g < 2 → K = some rr → P) : P := by
  unfold gok at h
  split at h
  · rename_i hg; exact kk hg h
  · cases h
theorem x_bok {b : Nat} {K : Option ρ} {P : Prop} (h : bok b K = some rr) (kk : xbs b = true → K = some rr → P) : P := by
  unfold bok at h
  split at h
  · rename_i hb; exact kk hb h
  · cases h
theorem x_ix {i : Int32} {n : Nat} {K : Nat → Option ρ} {P : Prop} (h : ix i n K = some rr) (kk : xin i n = true → K i.toNatClampNeg = some rr → P) : P := by
  unfold ix at h
  split at h
  · rename_i hb; exact kk hb h
  · cases h
theorem x_nul {off : Int} {o : Option Nat} {A : Option ρ} {K : Nat → Option ρ} (tgt pn : Nat) (hp : pc + 3 = pn) (hd : decode cc pc = .ok (.ifnull off, 3)) (ht : (pc : Int) + off = (tgt : Int)) (h : nu o A K = some rr) (kt : o = none → A = some rr → xB L y cc nL ret d lo tgt lv st (ms, r) v w1) (kf : ∀ a, o = some a → K a = some rr → xB L y cc nL ret d lo pn lv st (ms, r) v w1) : xB L y cc nL ret d lo pc lv ((.inr (.inr (o)) : xV) :: st) (ms, r) v w1 := by
  cases o with
  | none => exact x_ifnull tgt pn hp hd ht (fun _ => kt rfl h) (fun _ q => by cases q)
  | some a => exact x_ifnull tgt pn hp hd ht (fun q => by cases q) (fun b q => by cases q; exact kf a rfl h)
theorem x_nnl {off : Int} {o : Option Nat} {A : Option ρ} {K : Nat → Option ρ} (tgt pn : Nat) (hp : pc + 3 = pn) (hd : decode cc pc = .ok (.ifnonnull off, 3)) (ht : (pc : Int) + off = (tgt : Int)) (h : nu o A K = some rr) (kt : ∀ a, o = some a → K a = some rr → xB L y cc nL ret d lo tgt lv st (ms, r) v w1) (kf : o = none → A = some rr → xB L y cc nL ret d lo pn lv st (ms, r) v w1) : xB L y cc nL ret d lo pc lv ((.inr (.inr (o)) : xV) :: st) (ms, r) v w1 := by
  cases o with
  | none => exact x_ifnonnull tgt pn hp hd ht (fun _ q => by cases q) (fun _ => kf rfl h)
  | some a => exact x_ifnonnull tgt pn hp hd ht (fun b q => by cases q; exact kt a rfl h) (fun q => by cases q)
theorem d_geti {a ix k ci N : Nat} {C : String} {T : u_T} (pn : Nat) (hp : pc + 3 = pn) (hd : decode cc pc = .ok (.getfield ix, 3)) (hcl : xcl[ci]? = some (C, T, N)) (hin : ∀ w ∈ u_ws C T N, w ∈ lw_all) (hk : k < N) (hl : Cond.fieldLink y.cls ix (T k).1 (T k).2.1 (T k).2.2.1 ∈ lw_all) {K : Int32 → Option ρ} (h : dgi L r a ci k K = some rr) (kk : ∀ x, K x = some rr → xB L y cc nL ret d lo pn lv ((.inl (x) : xV) :: st) (ms, r) v w1) : xB L y cc nL ret d lo pc lv ((.inr (.inr (some (a))) : xV) :: st) (ms, r) v w1 := by
  obtain ⟨V, x, h1, h2, h3⟩ := dgi_inv h
  exact x_getf (ci := ci) (C := C) (T := T) (N := N) (V := V) pn hp hd (Or.inl (xdl_cell h1).1) hcl hin hk hl h2 (kk x h3)
theorem d_getr {a ix k ci N : Nat} {C : String} {T : u_T} (pn : Nat) (hp : pc + 3 = pn) (hd : decode cc pc = .ok (.getfield ix, 3)) (hcl : xcl[ci]? = some (C, T, N)) (hin : ∀ w ∈ u_ws C T N, w ∈ lw_all) (hk : k < N) (hl : Cond.fieldLink y.cls ix (T k).1 (T k).2.1 (T k).2.2.1 ∈ lw_all) {K : Option Nat → Option ρ} (h : dgr L r a ci k K = some rr) (kk : ∀ x, K x = some rr → xB L y cc nL ret d lo pn lv ((.inr (.inr (x)) : xV) :: st) (ms, r) v w1) : xB L y cc nL ret d lo pc lv ((.inr (.inr (some (a))) : xV) :: st) (ms, r) v w1 := by
  obtain ⟨V, x, h1, h2, h3⟩ := dgr_inv h
  exact x_getf (ci := ci) (C := C) (T := T) (N := N) (V := V) pn hp hd (Or.inl (xdl_cell h1).1) hcl hin hk hl h2 (kk x h3)
theorem d_getiN {a ix k ci N : Nat} {C : String} {T : u_T} (pn : Nat) (hp : pc + 3 = pn) (hd : decode cc pc = .ok (.getfield ix, 3)) (hcl : xcl[ci]? = some (C, T, N)) (hin : ∀ w ∈ u_ws C T N, w ∈ lw_all) (hk : k < N) (hl : Cond.fieldLinkNest y.cls ix (T k).1 (T k).2.1 (T k).2.2.1 "UnimodularTables" ∈ xnest) {K : Int32 → Option ρ} (h : dgi L r a ci k K = some rr) (kk : ∀ x, K x = some rr → xB L y cc nL ret d lo pn lv ((.inl (x) : xV) :: st) (ms, r) v w1) : xB L y cc nL ret d lo pc lv ((.inr (.inr (some (a))) : xV) :: st) (ms, r) v w1 := by
  obtain ⟨V, x, h1, h2, h3⟩ := dgi_inv h
  exact x_getfN (ci := ci) (C := C) (T := T) (N := N) (V := V) pn hp hd (Or.inl (xdl_cell h1).1) hcl hin hk hl h2 (kk x h3)
theorem d_getrN {a ix k ci N : Nat} {C : String} {T : u_T} (pn : Nat) (hp : pc + 3 = pn) (hd : decode cc pc = .ok (.getfield ix, 3)) (hcl : xcl[ci]? = some (C, T, N)) (hin : ∀ w ∈ u_ws C T N, w ∈ lw_all) (hk : k < N) (hl : Cond.fieldLinkNest y.cls ix (T k).1 (T k).2.1 (T k).2.2.1 "UnimodularTables" ∈ xnest) {K : Option Nat → Option ρ} (h : dgr L r a ci k K = some rr) (kk : ∀ x, K x = some rr → xB L y cc nL ret d lo pn lv ((.inr (.inr (x)) : xV) :: st) (ms, r) v w1) : xB L y cc nL ret d lo pc lv ((.inr (.inr (some (a))) : xV) :: st) (ms, r) v w1 := by
  obtain ⟨V, x, h1, h2, h3⟩ := dgr_inv h
  exact x_getfN (ci := ci) (C := C) (T := T) (N := N) (V := V) pn hp hd (Or.inl (xdl_cell h1).1) hcl hin hk hl h2 (kk x h3)
theorem d_puti {a ix k ci N : Nat} {C : String} {T : u_T} {x : Int32} (pn : Nat) (hp : pc + 3 = pn) (hd : decode cc pc = .ok (.putfield ix, 3)) (hcl : xcl[ci]? = some (C, T, N)) (hin : ∀ w ∈ u_ws C T N, w ∈ lw_all) (hk : k < N) (ty0 : Nat → FieldType) (hty : ∀ k, k < N → parseFieldDescriptor (T k).2.2.1 = some (ty0 k)) (hnm : ∀ a, a < N → ∀ b, b < N → a ≠ b → (T a).2.1 ≠ (T b).2.1) (hl : Cond.fieldLink y.cls ix (T k).1 (T k).2.1 (T k).2.2.1 ∈ lw_all) (hfin : (T k).2.2.2 = false) (hT : ty0 k = .int ∨ ty0 k = .boolean ∧ (x = 0 ∨ x = 1)) {K : xR → Option ρ} (h : dpv L r a ci k (.inl x) K = some rr) (kk : ∀ r', K r' = some rr → xB L y cc nL ret d lo pn lv st (ms, r') v w1) : xB L y cc nL ret d lo pc lv ((.inl (x) : xV) :: (.inr (.inr (some (a))) : xV) :: st) (ms, r) v w1 := by
  obtain ⟨V, h1, h2⟩ := dpv_inv h
  refine x_putf (ci := ci) (C := C) (T := T) (N := N) (V := V) (k := k) (w' := (ms, xds r a (.inr (.inl (ci, fun j => if j = k then (.inl x) else V j))))) pn hp hd (xdl_cell h1).1 hcl hin ty0 hty hnm hk hl hfin (fun g => ?_) (fun g => ?_) rfl rfl (xds_cell (xdl_cell (ms := ms) h1).2) (kk _ h2)
  · rcases hT with e | ⟨e, e2⟩
    · rw [e]; rfl
    · rw [e]; rcases e2 with rfl | rfl <;> rfl
  · rcases hT with e | ⟨e, e2⟩
    · rw [e]; rfl
    · rw [e]; rcases e2 with rfl | rfl <;> rfl
theorem d_putr {a ix k ci N : Nat} {C : String} {T : u_T} {x : Option Nat} (pn : Nat) (hp : pc + 3 = pn) (hd : decode cc pc = .ok (.putfield ix, 3)) (hcl : xcl[ci]? = some (C, T, N)) (hin : ∀ w ∈ u_ws C T N, w ∈ lw_all) (hk : k < N) (ty0 : Nat → FieldType) (hty : ∀ k, k < N → parseFieldDescriptor (T k).2.2.1 = some (ty0 k)) (hnm : ∀ a, a < N → ∀ b, b < N → a ≠ b → (T a).2.1 ≠ (T b).2.1) (hl : Cond.fieldLink y.cls ix (T k).1 (T k).2.1 (T k).2.2.1 ∈ lw_all) (hfin : (T k).2.2.2 = false) (hT : (∃ n, ty0 k = .object n) ∨ ∃ t, ty0 k = .array t) {K : xR → Option ρ} (h : dpv L r a ci k (.inr (.inr x)) K = some rr) (kk : ∀ r', K r' = some rr → xB L y cc nL ret d lo pn lv st (ms, r') v w1) : xB L y cc nL ret d lo pc lv ((.inr (.inr (x)) : xV) :: (.inr (.inr (some (a))) : xV) :: st) (ms, r) v w1 := by
  obtain ⟨V, h1, h2⟩ := dpv_inv h
  refine x_putf (ci := ci) (C := C) (T := T) (N := N) (V := V) (k := k) (w' := (ms, xds r a (.inr (.inl (ci, fun j => if j = k then (.inr (.inr x)) else V j))))) pn hp hd (xdl_cell h1).1 hcl hin ty0 hty hnm hk hl hfin (fun g => ?_) (fun g => ?_) rfl rfl (xds_cell (xdl_cell (ms := ms) h1).2) (kk _ h2)
  · rcases hT with ⟨n, e⟩ | ⟨n, e⟩ <;> rw [e] <;> cases x <;> rfl
  · rcases hT with ⟨n, e⟩ | ⟨n, e⟩ <;> rw [e] <;> cases x <;> rfl
theorem d_putiN {a ix k ci N : Nat} {C : String} {T : u_T} {x : Int32} (pn : Nat) (hp : pc + 3 = pn) (hd : decode cc pc = .ok (.putfield ix, 3)) (hcl : xcl[ci]? = some (C, T, N)) (hin : ∀ w ∈ u_ws C T N, w ∈ lw_all) (hk : k < N) (ty0 : Nat → FieldType) (hty : ∀ k, k < N → parseFieldDescriptor (T k).2.2.1 = some (ty0 k)) (hnm : ∀ a, a < N → ∀ b, b < N → a ≠ b → (T a).2.1 ≠ (T b).2.1) (hl : Cond.fieldLinkNest y.cls ix (T k).1 (T k).2.1 (T k).2.2.1 "UnimodularTables" ∈ xnest) (hfin : (T k).2.2.2 = false) (hT : ty0 k = .int ∨ ty0 k = .boolean ∧ (x = 0 ∨ x = 1)) {K : xR → Option ρ} (h : dpv L r a ci k (.inl x) K = some rr) (kk : ∀ r', K r' = some rr → xB L y cc nL ret d lo pn lv st (ms, r') v w1) : xB L y cc nL ret d lo pc lv ((.inl (x) : xV) :: (.inr (.inr (some (a))) : xV) :: st) (ms, r) v w1 := by
  obtain ⟨V, h1, h2⟩ := dpv_inv h
  refine x_putfN (ci := ci) (C := C) (T := T) (N := N) (V := V) (k := k) (w' := (ms, xds r a (.inr (.inl (ci, fun j => if j = k then (.inl x) else V j))))) pn hp hd (xdl_cell h1).1 hcl hin ty0 hty hnm hk hl hfin (fun g => ?_) (fun g => ?_) rfl rfl (xds_cell (xdl_cell (ms := ms) h1).2) (kk _ h2)
  · rcases hT with e | ⟨e, e2⟩
    · rw [e]; rfl
    · rw [e]; rcases e2 with rfl | rfl <;> rfl
  · rcases hT with e | ⟨e, e2⟩
    · rw [e]; rfl
    · rw [e]; rcases e2 with rfl | rfl <;> rfl
theorem d_putrN {a ix k ci N : Nat} {C : String} {T : u_T} {x : Option Nat} (pn : Nat) (hp : pc + 3 = pn) (hd : decode cc pc = .ok (.putfield ix, 3)) (hcl : xcl[ci]? = some (C, T, N)) (hin : ∀ w ∈ u_ws C T N, w ∈ lw_all) (hk : k < N) (ty0 : Nat → FieldType) (hty : ∀ k, k < N → parseFieldDescriptor (T k).2.2.1 = some (ty0 k)) (hnm : ∀ a, a < N → ∀ b, b < N → a ≠ b → (T a).2.1 ≠ (T b).2.1) (hl : Cond.fieldLinkNest y.cls ix (T k).1 (T k).2.1 (T k).2.2.1 "UnimodularTables" ∈ xnest) (hfin : (T k).2.2.2 = false) (hT : (∃ n, ty0 k = .object n) ∨ ∃ t, ty0 k = .array t) {K : xR → Option ρ} (h : dpv L r a ci k (.inr (.inr x)) K = some rr) (kk : ∀ r', K r' = some rr → xB L y cc nL ret d lo pn lv st (ms, r') v w1) : xB L y cc nL ret d lo pc lv ((.inr (.inr (x)) : xV) :: (.inr (.inr (some (a))) : xV) :: st) (ms, r) v w1 := by
  obtain ⟨V, h1, h2⟩ := dpv_inv h
  refine x_putfN (ci := ci) (C := C) (T := T) (N := N) (V := V) (k := k) (w' := (ms, xds r a (.inr (.inl (ci, fun j => if j = k then (.inr (.inr x)) else V j))))) pn hp hd (xdl_cell h1).1 hcl hin ty0 hty hnm hk hl hfin (fun g => ?_) (fun g => ?_) rfl rfl (xds_cell (xdl_cell (ms := ms) h1).2) (kk _ h2)
  · rcases hT with ⟨n, e⟩ | ⟨n, e⟩ <;> rw [e] <;> cases x <;> rfl
  · rcases hT with ⟨n, e⟩ | ⟨n, e⟩ <;> rw [e] <;> cases x <;> rfl
theorem d_putiF {a ix k ci N : Nat} {C : String} {T : u_T} {x : Int32} (pn : Nat) (hp : pc + 3 = pn) (hd : decode cc pc = .ok (.putfield ix, 3)) (hy : y.name = "<init>") (hyc : y.cls = C) (hT1 : (T k).1 = C) (hcl : xcl[ci]? = some (C, T, N)) (hin : ∀ w ∈ u_ws C T N, w ∈ lw_all) (hk : k < N) (ty0 : Nat → FieldType) (hty : ∀ k, k < N → parseFieldDescriptor (T k).2.2.1 = some (ty0 k)) (hnm : ∀ a, a < N → ∀ b, b < N → a ≠ b → (T a).2.1 ≠ (T b).2.1) (hl : Cond.fieldLink y.cls ix (T k).1 (T k).2.1 (T k).2.2.1 ∈ lw_all) (hfin : (T k).2.2.2 = true) (hT : ty0 k = .int ∨ ty0 k = .boolean ∧ (x = 0 ∨ x = 1)) {K : xR → Option ρ} (h : dpv L r a ci k (.inl x) K = some rr) (kk : ∀ r', K r' = some rr → xB L y cc nL ret d lo pn lv st (ms, r') v w1) : xB L y cc nL ret d lo pc lv ((.inl (x) : xV) :: (.inr (.inr (some (a))) : xV) :: st) (ms, r) v w1 := by
  obtain ⟨V, h1, h2⟩ := dpv_inv h
  refine x_putF (ci := ci) (C := C) (T := T) (N := N) (V := V) (k := k) (w' := (ms, xds r a (.inr (.inl (ci, fun j => if j = k then (.inl x) else V j))))) pn hp hd hy hyc (xdl_cell h1).1 hcl hin ty0 hty hnm hk hl hfin hT1 (fun g => ?_) (fun g => ?_) rfl rfl (xds_cell (xdl_cell (ms := ms) h1).2) (kk _ h2)
  · rcases hT with e | ⟨e, e2⟩
    · rw [e]; rfl
    · rw [e]; rcases e2 with rfl | rfl <;> rfl
  · rcases hT with e | ⟨e, e2⟩
    · rw [e]; rfl
    · rw [e]; rcases e2 with rfl | rfl <;> rfl
theorem d_putrF {a ix k ci N : Nat} {C : String} {T : u_T} {x : Option Nat} (pn : Nat) (hp : pc + 3 = pn) (hd : decode cc pc = .ok (.putfield ix, 3)) (hy : y.name = "<init>") (hyc : y.cls = C) (hT1 : (T k).1 = C) (hcl : xcl[ci]? = some (C, T, N)) (hin : ∀ w ∈ u_ws C T N, w ∈ lw_all) (hk : k < N) (ty0 : Nat → FieldType) (hty : ∀ k, k < N → parseFieldDescriptor (T k).2.2.1 = some (ty0 k)) (hnm : ∀ a, a < N → ∀ b, b < N → a ≠ b → (T a).2.1 ≠ (T b).2.1) (hl : Cond.fieldLink y.cls ix (T k).1 (T k).2.1 (T k).2.2.1 ∈ lw_all) (hfin : (T k).2.2.2 = true) (hT : (∃ n, ty0 k = .object n) ∨ ∃ t, ty0 k = .array t) {K : xR → Option ρ} (h : dpv L r a ci k (.inr (.inr x)) K = some rr) (kk : ∀ r', K r' = some rr → xB L y cc nL ret d lo pn lv st (ms, r') v w1) : xB L y cc nL ret d lo pc lv ((.inr (.inr (x)) : xV) :: (.inr (.inr (some (a))) : xV) :: st) (ms, r) v w1 := by
  obtain ⟨V, h1, h2⟩ := dpv_inv h
  refine x_putF (ci := ci) (C := C) (T := T) (N := N) (V := V) (k := k) (w' := (ms, xds r a (.inr (.inl (ci, fun j => if j = k then (.inr (.inr x)) else V j))))) pn hp hd hy hyc (xdl_cell h1).1 hcl hin ty0 hty hnm hk hl hfin hT1 (fun g => ?_) (fun g => ?_) rfl rfl (xds_cell (xdl_cell (ms := ms) h1).2) (kk _ h2)
  · rcases hT with ⟨n, e⟩ | ⟨n, e⟩ <;> rw [e] <;> cases x <;> rfl
  · rcases hT with ⟨n, e⟩ | ⟨n, e⟩ <;> rw [e] <;> cases x <;> rfl
theorem d_iald {a : Nat} {i : Int32} (pn : Nat) (hp : pc + 1 = pn) (hd : decode cc pc = .ok (.iaload, 1)) {K : Int32 → Option ρ} (h : dai L r a i K = some rr) (kk : ∀ x, K x = some rr → xB L y cc nL ret d lo pn lv ((.inl (x) : xV) :: st) (ms, r) v w1) : xB L y cc nL ret d lo pc lv ((.inl (i) : xV) :: (.inr (.inr (some (a))) : xV) :: st) (ms, r) v w1 := by
  obtain ⟨n, f, h1, h2, h3⟩ := dai_inv h
  exact x_iald pn hp hd (Or.inl (xdl_cell h1).1) h2 (kk _ h3)
theorem d_iast {a : Nat} {i x : Int32} (pn : Nat) (hp : pc + 1 = pn) (hd : decode cc pc = .ok (.iastore, 1)) {K : xR → Option ρ} (h : daw L r a i x K = some rr) (kk : ∀ r', K r' = some rr → xB L y cc nL ret d lo pn lv st (ms, r') v w1) : xB L y cc nL ret d lo pc lv ((.inl (x) : xV) :: (.inl (i) : xV) :: (.inr (.inr (some (a))) : xV) :: st) (ms, r) v w1 := by
  obtain ⟨n, f, h1, h2, h3⟩ := daw_inv h
  exact x_iast (w' := (ms, xds r a _)) pn hp hd (xdl_cell h1).1 h2 rfl rfl (xds_cell (xdl_cell (ms := ms) h1).2) (kk _ h3)
theorem d_aald {a : Nat} {i : Int32} (pn : Nat) (hp : pc + 1 = pn) (hd : decode cc pc = .ok (.aaload, 1)) {K : Option Nat → Option ρ} (h : dar L r a i K = some rr) (kk : ∀ x, K x = some rr → xB L y cc nL ret d lo pn lv ((.inr (.inr (x)) : xV) :: st) (ms, r) v w1) : xB L y cc nL ret d lo pc lv ((.inl (i) : xV) :: (.inr (.inr (some (a))) : xV) :: st) (ms, r) v w1 := by
  obtain ⟨t, n, f, h1, h2, h3, h4⟩ := dar_inv h
  exact x_aald h2 pn hp hd (Or.inl (xdl_cell h1).1) h3 (kk _ h4)
theorem d_alen {a : Nat} (pn : Nat) (hp : pc + 1 = pn) (hd : decode cc pc = .ok (.arraylength, 1)) {K : Int32 → Option ρ} (h : dln L r a K = some rr) (kk : ∀ x, K x = some rr → xB L y cc nL ret d lo pn lv ((.inl (x) : xV) :: st) (ms, r) v w1) : xB L y cc nL ret d lo pc lv ((.inr (.inr (some (a))) : xV) :: st) (ms, r) v w1 := by
  obtain ⟨t, n, ct, h1, h2, h3⟩ := dln_inv h
  exact x_alen h2 pn hp hd (Or.inl (xdl_cell h1).1) rfl (kk _ h3)
theorem d_new {ix ci N n : Nat} {C : String} {T : u_T} (ty0 : Nat → FieldType) (pn : Nat) (hp : pc + 3 = pn) (hd : decode cc pc = .ok (.new ix, 3)) (hcl : xcl[ci]? = some (C, T, N)) (hin : ∀ w ∈ u_ws C T N, w ∈ lw_all) (hty : ∀ k, k < N → parseFieldDescriptor (T k).2.2.1 = some (ty0 k)) (hok : ∀ k, k < N → xdok (ty0 k) = true) (hlk : Cond.classLink y.cls ix C ∈ lw_all) (hins : Cond.instantiable C n ∈ lw_all) (hini : Cond.initialized C ∈ lw_all) {K : Nat → xR → Option ρ} (h : al L r (.inr (.inl (ci, xdefV ty0))) n K = some rr)
    (kk : ∀ a r', K a r' = some rr → xB L y cc nL ret d lo pn lv ((.inr (.inr (some (a))) : xV) :: st) (ms, r') v w1) : xB L y cc nL ret d lo pc lv st (ms, r) v w1 := by
  obtain ⟨h1, h2⟩ := al_inv h
  exact x_new pn hp hd h1 hcl hin ty0 hty (fun g k hk => xdefV_ok (hok k hk) g) hlk hins hini (kk _ _ h2)
theorem d_newi {n : Int32} (pn : Nat) (hp : pc + 2 = pn) (hd : decode cc pc = .ok (.newarray .int, 2)) {K : Nat → xR → Option ρ} (h : ali L r n K = some rr) (kk : ∀ a r', K a r' = some rr → xB L y cc nL ret d lo pn lv ((.inr (.inr (some (a))) : xV) :: st) (ms, r') v w1) : xB L y cc nL ret d lo pc lv ((.inl (n) : xV) :: st) (ms, r) v w1 := by
  unfold ali at h
  split at h
  · rename_i hc
    obtain ⟨h1, h2⟩ := al_inv h
    exact x_newi pn hp hd h1 hc.1 hc.2 (kk _ _ h2)
  · cases h
theorem q_get {ix k : Nat} (pn : Nat) (hp : pc + 3 = pn) (hd : decode cc pc = .ok (.getfield ix, 3)) (hk : k < 34) (hl : Cond.fieldLink y.cls ix (TX1 k).1 (TX1 k).2.1 (TX1 k).2.2.1 ∈ lw_all) {x : xV} (hv : (xV0 r.1) k = x) (kk : xB xLL y cc nL ret d lo pn lv (x :: st) (ms, r) v w1) : xB xLL y cc nL ret d lo pc lv ((.inr (.inr (some (300))) : xV) :: st) (ms, r) v w1 :=
  x_getf (ci := 0) (C := RX1) (T := TX1) (N := 34) (V := (xV0 r.1)) pn hp hd (Or.inl xcell_X0) rfl in_X1 hk hl hv kk
theorem q_puti {ix k z : Nat} {x : Int32} (pn : Nat) (hp : pc + 3 = pn) (hd : decode cc pc = .ok (.putfield ix, 3)) (hk : k < 34) (hf : xfd[k]? = some (0, z)) (hT : tyX1 k = .int ∨ tyX1 k = .boolean ∧ (x = 0 ∨ x = 1)) (hfin : (TX1 k).2.2.2 = false) (hl : Cond.fieldLink y.cls ix (TX1 k).1 (TX1 k).2.1 (TX1 k).2.2.1 ∈ lw_all) {K : xR → Option ρ} (h : qpi r 0 k x K = some rr)
    (kk : ∀ r', K r' = some rr → xB xLL y cc nL ret d lo pn lv st (ms, r') v w1) : xB xLL y cc nL ret d lo pc lv (((.inl x) : xV) :: (.inr (.inr (some (300))) : xV) :: st) (ms, r) v w1 := by
  refine x_putf (ci := 0) (C := RX1) (T := TX1) (N := 34) (V := (xV0 r.1)) (k := k) (w' := (ms, ((xu r.1.1 0 k x, r.1.2), r.2))) pn hp hd xcell_X0 rfl in_X1 tyX1 tyX1_ok nmX1 hk hl hfin (fun g9 => ?_) (fun g9 => ?_) rfl rfl ?_ (kk _ h)
  · rcases hT with e | ⟨e, e2⟩
    · rw [e]; rfl
    · rw [e]; rcases e2 with rfl | rfl <;> rfl
  · rcases hT with e | ⟨e, e2⟩
    · rw [e]; rfl
    · rw [e]; rcases e2 with rfl | rfl <;> rfl
  · have hh := xcell_Xw (ms := ms) (r := r) (s' := ((xu r.1.1 0 k x, r.1.2), r.2).1) (t := 0) (e := .inr (.inl (0, fun j => if j = k then (.inl x) else (xV0 r.1) j))) (by decide) (fun a ha => by funext b; simp [xu, ha]) (fun a _ => rfl) (fun a _ => rfl) (by
      refine (xcell_X0 (ms := ms) (r := ((xu r.1.1 0 k x, r.1.2), r.2))).trans ?_
      congr 4
      funext j
      by_cases hj : j = k
      · subst hj
        simp [xV0, hf, xu]
      · simp [xV0, xu, hj])
    exact hh
theorem q_putl {ix k z : Nat} {x : Int64} (pn : Nat) (hp : pc + 3 = pn) (hd : decode cc pc = .ok (.putfield ix, 3)) (hk : k < 34) (hf : xfd[k]? = some (1, z)) (hT : tyX1 k = .long) (hfin : (TX1 k).2.2.2 = false) (hl : Cond.fieldLink y.cls ix (TX1 k).1 (TX1 k).2.1 (TX1 k).2.2.1 ∈ lw_all) {K : xR → Option ρ} (h : qpl r 0 k x K = some rr)
    (kk : ∀ r', K r' = some rr → xB xLL y cc nL ret d lo pn lv st (ms, r') v w1) : xB xLL y cc nL ret d lo pc lv (((.inr (.inl x)) : xV) :: (.inr (.inr (some (300))) : xV) :: st) (ms, r) v w1 := by
  refine x_putf (ci := 0) (C := RX1) (T := TX1) (N := 34) (V := (xV0 r.1)) (k := k) (w' := (ms, ((r.1.1, xuJ r.1.2.1 0 k x, r.1.2.2), r.2))) pn hp hd xcell_X0 rfl in_X1 tyX1 tyX1_ok nmX1 hk hl hfin (fun g9 => ?_) (fun g9 => ?_) rfl rfl ?_ (kk _ h)
  · rw [hT]; rfl
  · rw [hT]; rfl
  · have hh := xcell_Xw (ms := ms) (r := r) (s' := ((r.1.1, xuJ r.1.2.1 0 k x, r.1.2.2), r.2).1) (t := 0) (e := .inr (.inl (0, fun j => if j = k then (.inr (.inl x)) else (xV0 r.1) j))) (by decide) (fun a _ => rfl) (fun a ha => by funext b; simp [xuJ, ha]) (fun a _ => rfl) (by
      refine (xcell_X0 (ms := ms) (r := ((r.1.1, xuJ r.1.2.1 0 k x, r.1.2.2), r.2))).trans ?_
      congr 4
      funext j
      by_cases hj : j = k
      · subst hj
        simp [xV0, hf, xuJ]
      · simp [xV0, xuJ, hj])
    exact hh
theorem q_putr {ix k z : Nat} {x : Option Nat} (pn : Nat) (hp : pc + 3 = pn) (hd : decode cc pc = .ok (.putfield ix, 3)) (hk : k < 34) (hf : xfd[k]? = some (2, z)) (hT : (∃ n, tyX1 k = .object n) ∨ ∃ t, tyX1 k = .array t) (hfin : (TX1 k).2.2.2 = false) (hl : Cond.fieldLink y.cls ix (TX1 k).1 (TX1 k).2.1 (TX1 k).2.2.1 ∈ lw_all) {K : xR → Option ρ} (h : qpr r 0 k x K = some rr)
    (kk : ∀ r', K r' = some rr → xB xLL y cc nL ret d lo pn lv st (ms, r') v w1) : xB xLL y cc nL ret d lo pc lv (((.inr (.inr x)) : xV) :: (.inr (.inr (some (300))) : xV) :: st) (ms, r) v w1 := by
  refine x_putf (ci := 0) (C := RX1) (T := TX1) (N := 34) (V := (xV0 r.1)) (k := k) (w' := (ms, ((r.1.1, r.1.2.1, xuP r.1.2.2 0 k x), r.2))) pn hp hd xcell_X0 rfl in_X1 tyX1 tyX1_ok nmX1 hk hl hfin (fun g9 => ?_) (fun g9 => ?_) rfl rfl ?_ (kk _ h)
  · rcases hT with ⟨n, e⟩ | ⟨n, e⟩ <;> rw [e] <;> cases x <;> rfl
  · rcases hT with ⟨n, e⟩ | ⟨n, e⟩ <;> rw [e] <;> cases x <;> rfl
  · have hh := xcell_Xw (ms := ms) (r := r) (s' := ((r.1.1, r.1.2.1, xuP r.1.2.2 0 k x), r.2).1) (t := 0) (e := .inr (.inl (0, fun j => if j = k then (.inr (.inr x)) else (xV0 r.1) j))) (by decide) (fun a _ => rfl) (fun a _ => rfl) (fun a ha => by funext b; simp [xuP, ha]) (by
      refine (xcell_X0 (ms := ms) (r := ((r.1.1, r.1.2.1, xuP r.1.2.2 0 k x), r.2))).trans ?_
      congr 4
      funext j
      by_cases hj : j = k
      · subst hj
        simp [xV0, hf, xuP]
      · simp [xV0, xuP, hj])
    exact hh
theorem g_get {ix k g : Nat} (pn : Nat) (hp : pc + 3 = pn) (hd : decode cc pc = .ok (.getfield ix, 3)) (hk : k < 8) (hl : Cond.fieldLink y.cls ix (TX3 k).1 (TX3 k).2.1 (TX3 k).2.2.1 ∈ lw_all) {x : xV} (hg : g < 2) (hv : (gV r.1 g) k = x) (kk : xB xLL y cc nL ret d lo pn lv (x :: st) (ms, r) v w1) : xB xLL y cc nL ret d lo pc lv ((.inr (.inr (some (312 + 18 * g))) : xV) :: st) (ms, r) v w1 :=
  x_getf (ci := 3) (C := RX3) (T := TX3) (N := 8) (V := (gV r.1 g)) pn hp hd (Or.inl (xcell_XG hg)) rfl in_X3 hk hl hv kk
theorem g_puti {ix k z g : Nat} {x : Int32} (pn : Nat) (hp : pc + 3 = pn) (hd : decode cc pc = .ok (.putfield ix, 3)) (hk : k < 8) (hg : g < 2) (hf : (gfd g)[k]? = some (0, z)) (hT : tyX3 k = .int ∨ tyX3 k = .boolean ∧ (x = 0 ∨ x = 1)) (hfin : (TX3 k).2.2.2 = false) (hl : Cond.fieldLink y.cls ix (TX3 k).1 (TX3 k).2.1 (TX3 k).2.2.1 ∈ lw_all) {K : xR → Option ρ} (h : qpi r (12 + 18 * g) k x K = some rr)
    (kk : ∀ r', K r' = some rr → xB xLL y cc nL ret d lo pn lv st (ms, r') v w1) : xB xLL y cc nL ret d lo pc lv (((.inl x) : xV) :: (.inr (.inr (some (312 + 18 * g))) : xV) :: st) (ms, r) v w1 := by
  refine x_putf (ci := 3) (C := RX3) (T := TX3) (N := 8) (V := (gV r.1 g)) (k := k) (w' := (ms, ((xu r.1.1 (12 + 18 * g) k x, r.1.2), r.2))) pn hp hd (xcell_XG hg) rfl in_X3 tyX3 tyX3_ok nmX3 hk hl hfin (fun g9 => ?_) (fun g9 => ?_) rfl rfl ?_ (kk _ h)
  · rcases hT with e | ⟨e, e2⟩
    · rw [e]; rfl
    · rw [e]; rcases e2 with rfl | rfl <;> rfl
  · rcases hT with e | ⟨e, e2⟩
    · rw [e]; rfl
    · rw [e]; rcases e2 with rfl | rfl <;> rfl
  · have hh := xcell_Xw (ms := ms) (r := r) (s' := ((xu r.1.1 (12 + 18 * g) k x, r.1.2), r.2).1) (t := (12 + 18 * g)) (e := .inr (.inl (3, fun j => if j = k then (.inl x) else (gV r.1 g) j))) (by omega) (fun a ha => by funext b; simp [xu, ha]) (fun a _ => rfl) (fun a _ => rfl) (by
      rw [show 300 + ((12 + 18 * g)) = 312 + 18 * g by omega]
      refine ((xcell_XG (ms := ms) (r := ((xu r.1.1 (12 + 18 * g) k x, r.1.2), r.2)) hg)).trans ?_
      congr 4
      funext j
      by_cases hj : j = k
      · subst hj
        simp [gV, hf, xu]
      · simp [gV, xu, hj])
    rw [show 300 + ((12 + 18 * g)) = 312 + 18 * g by omega] at hh
    exact hh
theorem g_putr {ix k z g : Nat} {x : Option Nat} (pn : Nat) (hp : pc + 3 = pn) (hd : decode cc pc = .ok (.putfield ix, 3)) (hk : k < 8) (hg : g < 2) (hf : (gfd g)[k]? = some (2, z)) (hT : (∃ n, tyX3 k = .object n) ∨ ∃ t, tyX3 k = .array t) (hfin : (TX3 k).2.2.2 = false) (hl : Cond.fieldLink y.cls ix (TX3 k).1 (TX3 k).2.1 (TX3 k).2.2.1 ∈ lw_all) {K : xR → Option ρ} (h : qpr r (12 + 18 * g) k x K = some rr)
    (kk : ∀ r', K r' = some rr → xB xLL y cc nL ret d lo pn lv st (ms, r') v w1) : xB xLL y cc nL ret d lo pc lv (((.inr (.inr x)) : xV) :: (.inr (.inr (some (312 + 18 * g))) : xV) :: st) (ms, r) v w1 := by
  refine x_putf (ci := 3) (C := RX3) (T := TX3) (N := 8) (V := (gV r.1 g)) (k := k) (w' := (ms, ((r.1.1, r.1.2.1, xuP r.1.2.2 (12 + 18 * g) k x), r.2))) pn hp hd (xcell_XG hg) rfl in_X3 tyX3 tyX3_ok nmX3 hk hl hfin (fun g9 => ?_) (fun g9 => ?_) rfl rfl ?_ (kk _ h)
  · rcases hT with ⟨n, e⟩ | ⟨n, e⟩ <;> rw [e] <;> cases x <;> rfl
  · rcases hT with ⟨n, e⟩ | ⟨n, e⟩ <;> rw [e] <;> cases x <;> rfl
  · have hh := xcell_Xw (ms := ms) (r := r) (s' := ((r.1.1, r.1.2.1, xuP r.1.2.2 (12 + 18 * g) k x), r.2).1) (t := (12 + 18 * g)) (e := .inr (.inl (3, fun j => if j = k then (.inr (.inr x)) else (gV r.1 g) j))) (by omega) (fun a _ => rfl) (fun a _ => rfl) (fun a ha => by funext b; simp [xuP, ha]) (by
      rw [show 300 + ((12 + 18 * g)) = 312 + 18 * g by omega]
      refine ((xcell_XG (ms := ms) (r := ((r.1.1, r.1.2.1, xuP r.1.2.2 (12 + 18 * g) k x), r.2)) hg)).trans ?_
      congr 4
      funext j
      by_cases hj : j = k
      · subst hj
        simp [gV, hf, xuP]
      · simp [gV, xuP, hj])
    rw [show 300 + ((12 + 18 * g)) = 312 + 18 * g by omega] at hh
    exact hh
theorem g_getN {ix k g : Nat} (pn : Nat) (hp : pc + 3 = pn) (hd : decode cc pc = .ok (.getfield ix, 3)) (hk : k < 8) (hl : Cond.fieldLinkNest y.cls ix (TX3 k).1 (TX3 k).2.1 (TX3 k).2.2.1 "UnimodularTables" ∈ xnest) {x : xV} (hg : g < 2) (hv : (gV r.1 g) k = x) (kk : xB xLL y cc nL ret d lo pn lv (x :: st) (ms, r) v w1) : xB xLL y cc nL ret d lo pc lv ((.inr (.inr (some (312 + 18 * g))) : xV) :: st) (ms, r) v w1 :=
  x_getfN (ci := 3) (C := RX3) (T := TX3) (N := 8) (V := (gV r.1 g)) pn hp hd (Or.inl (xcell_XG hg)) rfl in_X3 hk hl hv kk
theorem g_putiN {ix k z g : Nat} {x : Int32} (pn : Nat) (hp : pc + 3 = pn) (hd : decode cc pc = .ok (.putfield ix, 3)) (hk : k < 8) (hg : g < 2) (hf : (gfd g)[k]? = some (0, z)) (hT : tyX3 k = .int ∨ tyX3 k = .boolean ∧ (x = 0 ∨ x = 1)) (hfin : (TX3 k).2.2.2 = false) (hl : Cond.fieldLinkNest y.cls ix (TX3 k).1 (TX3 k).2.1 (TX3 k).2.2.1 "UnimodularTables" ∈ xnest) {K : xR → Option ρ} (h : qpi r (12 + 18 * g) k x K = some rr)
    (kk : ∀ r', K r' = some rr → xB xLL y cc nL ret d lo pn lv st (ms, r') v w1) : xB xLL y cc nL ret d lo pc lv (((.inl x) : xV) :: (.inr (.inr (some (312 + 18 * g))) : xV) :: st) (ms, r) v w1 := by
  refine x_putfN (ci := 3) (C := RX3) (T := TX3) (N := 8) (V := (gV r.1 g)) (k := k) (w' := (ms, ((xu r.1.1 (12 + 18 * g) k x, r.1.2), r.2))) pn hp hd (xcell_XG hg) rfl in_X3 tyX3 tyX3_ok nmX3 hk hl hfin (fun g9 => ?_) (fun g9 => ?_) rfl rfl ?_ (kk _ h)
  · rcases hT with e | ⟨e, e2⟩
    · rw [e]; rfl
    · rw [e]; rcases e2 with rfl | rfl <;> rfl
  · rcases hT with e | ⟨e, e2⟩
    · rw [e]; rfl
    · rw [e]; rcases e2 with rfl | rfl <;> rfl
  · have hh := xcell_Xw (ms := ms) (r := r) (s' := ((xu r.1.1 (12 + 18 * g) k x, r.1.2), r.2).1) (t := (12 + 18 * g)) (e := .inr (.inl (3, fun j => if j = k then (.inl x) else (gV r.1 g) j))) (by omega) (fun a ha => by funext b; simp [xu, ha]) (fun a _ => rfl) (fun a _ => rfl) (by
      rw [show 300 + ((12 + 18 * g)) = 312 + 18 * g by omega]
      refine ((xcell_XG (ms := ms) (r := ((xu r.1.1 (12 + 18 * g) k x, r.1.2), r.2)) hg)).trans ?_
      congr 4
      funext j
      by_cases hj : j = k
      · subst hj
        simp [gV, hf, xu]
      · simp [gV, xu, hj])
    rw [show 300 + ((12 + 18 * g)) = 312 + 18 * g by omega] at hh
    exact hh
theorem b_get {ix k b : Nat} (pn : Nat) (hp : pc + 3 = pn) (hd : decode cc pc = .ok (.getfield ix, 3)) (hk : k < 3) (hl : Cond.fieldLink y.cls ix (TJ6 k).1 (TJ6 k).2.1 (TJ6 k).2.2.1 ∈ lw_all) {x : xV} (hb : xbs b = true) (hv : (bV r.1 b) k = x) (kk : xB xLL y cc nL ret d lo pn lv (x :: st) (ms, r) v w1) : xB xLL y cc nL ret d lo pc lv ((.inr (.inr (some (300 + b))) : xV) :: st) (ms, r) v w1 :=
  x_getf (ci := 8) (C := RJ6) (T := TJ6) (N := 3) (V := (bV r.1 b)) pn hp hd (Or.inl (xcell_XB hb).1) rfl in_J6 hk hl hv kk
theorem b_puti {ix k z b : Nat} {x : Int32} (pn : Nat) (hp : pc + 3 = pn) (hd : decode cc pc = .ok (.putfield ix, 3)) (hk : k < 3) (hb : xbs b = true) (hf : (bfd b)[k]? = some (0, z)) (hT : tyJ6 k = .int ∨ tyJ6 k = .boolean ∧ (x = 0 ∨ x = 1)) (hfin : (TJ6 k).2.2.2 = false) (hl : Cond.fieldLink y.cls ix (TJ6 k).1 (TJ6 k).2.1 (TJ6 k).2.2.1 ∈ lw_all) {K : xR → Option ρ} (h : qpi r b k x K = some rr)
    (kk : ∀ r', K r' = some rr → xB xLL y cc nL ret d lo pn lv st (ms, r') v w1) : xB xLL y cc nL ret d lo pc lv (((.inl x) : xV) :: (.inr (.inr (some (300 + b))) : xV) :: st) (ms, r) v w1 := by
  refine x_putf (ci := 8) (C := RJ6) (T := TJ6) (N := 3) (V := (bV r.1 b)) (k := k) (w' := (ms, ((xu r.1.1 b k x, r.1.2), r.2))) pn hp hd (xcell_XB hb).1 rfl in_J6 tyJ6 tyJ6_ok nmJ6 hk hl hfin (fun g9 => ?_) (fun g9 => ?_) rfl rfl ?_ (kk _ h)
  · rcases hT with e | ⟨e, e2⟩
    · rw [e]; rfl
    · rw [e]; rcases e2 with rfl | rfl <;> rfl
  · rcases hT with e | ⟨e, e2⟩
    · rw [e]; rfl
    · rw [e]; rcases e2 with rfl | rfl <;> rfl
  · have hh := xcell_Xw (ms := ms) (r := r) (s' := ((xu r.1.1 b k x, r.1.2), r.2).1) (t := b) (e := .inr (.inl (8, fun j => if j = k then (.inl x) else (bV r.1 b) j))) (by have := xbs_in hb; simp only [List.mem_cons, List.not_mem_nil, or_false] at this; omega) (fun a ha => by funext b; simp [xu, ha]) (fun a _ => rfl) (fun a _ => rfl) (by
      refine ((xcell_XB (ms := ms) (r := ((xu r.1.1 b k x, r.1.2), r.2)) hb).1).trans ?_
      congr 4
      funext j
      by_cases hj : j = k
      · subst hj
        simp [bV, hf, xu]
      · simp [bV, xu, hj])
    exact hh
theorem q_iald {t : Nat} {i : Int32} (pn : Nat) (hp : pc + 1 = pn) (hd : decode cc pc = .ok (.iaload, 1)) {K : Int32 → Option ρ} (h : qrd r t i K = some rr) (kk : ∀ x, K x = some rr → xB xLL y cc nL ret d lo pn lv ((.inl (x) : xV) :: st) (ms, r) v w1) : xB xLL y cc nL ret d lo pc lv ((.inl (i) : xV) :: (.inr (.inr (some (300 + t))) : xV) :: st) (ms, r) v w1 := by
  unfold qrd at h
  split at h
  · rename_i hi
    exact x_iald pn hp hd (Or.inl (xcell_Xq (xin_pos hi))) hi (kk _ h)
  · cases h
theorem q_iast {t : Nat} {i x : Int32} (pn : Nat) (hp : pc + 1 = pn) (hd : decode cc pc = .ok (.iastore, 1)) {K : xR → Option ρ} (h : qwr r t i x K = some rr) (kk : ∀ r', K r' = some rr → xB xLL y cc nL ret d lo pn lv st (ms, r') v w1) : xB xLL y cc nL ret d lo pc lv ((.inl (x) : xV) :: (.inl (i) : xV) :: (.inr (.inr (some (300 + t))) : xV) :: st) (ms, r) v w1 := by
  unfold qwr at h
  split at h
  · rename_i hi
    have ht : t < 80 := by
      have := xlen_in (xin_pos hi)
      simp only [List.mem_cons, List.not_mem_nil, or_false] at this
      omega
    refine x_iast (w' := (ms, ((xu r.1.1 t i.toNatClampNeg x, r.1.2), r.2))) pn hp hd (xcell_Xq (xin_pos hi)) hi rfl rfl ?_ (kk _ h)
    refine xcell_Xw (r := r) ht (fun a ha => by funext b; simp [xu, ha]) (fun a _ => rfl) (fun a _ => rfl) ?_
    have e : xu r.1.1 t i.toNatClampNeg x t = fun j => if j = i.toNatClampNeg then x else r.1.1 t j := by
      funext j
      simp [xu]
    rw [xcell_Xq (xin_pos hi), ← e]
  · cases h
theorem q_bald {i : Int32} (pn : Nat) (hp : pc + 1 = pn) (hd : decode cc pc = .ok (.baload, 1)) {K : Int32 → Option ρ} (h : qrb r i K = some rr) (kk : ∀ x, K x = some rr → xB xLL y cc nL ret d lo pn lv ((.inl (x) : xV) :: st) (ms, r) v w1) : xB xLL y cc nL ret d lo pc lv ((.inl (i) : xV) :: (.inr (.inr (some (302))) : xV) :: st) (ms, r) v w1 := by
  unfold qrb at h
  split at h
  · rename_i hi
    exact x_bald pn hp hd (Or.inl xcell_Xt) hi (kk _ h)
  · cases h
theorem q_bast {i x : Int32} (pn : Nat) (hp : pc + 1 = pn) (hd : decode cc pc = .ok (.bastore, 1)) {K : xR → Option ρ} (h : qwb r i x K = some rr) (kk : ∀ r', K r' = some rr → xB xLL y cc nL ret d lo pn lv st (ms, r') v w1) : xB xLL y cc nL ret d lo pc lv ((.inl (x) : xV) :: (.inl (i) : xV) :: (.inr (.inr (some (302))) : xV) :: st) (ms, r) v w1 := by
  unfold qwb at h
  split at h
  · rename_i hi
    refine x_bast (w' := (ms, ((xu r.1.1 2 i.toNatClampNeg x.toInt8.toInt32, r.1.2), r.2))) pn hp hd xcell_Xt hi rfl rfl ?_ (kk _ h)
    refine xcell_Xw (r := r) (t := 2) (by decide) (fun a ha => by funext b; simp [xu, ha]) (fun a _ => rfl) (fun a _ => rfl) ?_
    have e : xu r.1.1 2 i.toNatClampNeg x.toInt8.toInt32 2 = fun j => if j = i.toNatClampNeg then x.toInt8.toInt32 else r.1.1 2 j := by
      funext j
      simp [xu]
    rw [show 300 + 2 = 302 from rfl, xcell_Xt, ← e]
  · cases h
theorem q_ends {g : Nat} {i : Int32} (hg : g < 2) (hi : xin i 7 = true) (pn : Nat) (hp : pc + 1 = pn) (hd : decode cc pc = .ok (.aaload, 1)) (kk : xB xLL y cc nL ret d lo pn lv ((.inr (.inr (some (300 + (16 + 18 * g + 2 * i.toNatClampNeg)))) : xV) :: st) (ms, r) v w1) : xB xLL y cc nL ret d lo pc lv ((.inl (i) : xV) :: (.inr (.inr (some (315 + 18 * g))) : xV) :: st) (ms, r) v w1 :=
  x_aald (t := 7) (by decide) pn hp hd (Or.inl (xcell_XE hg)) hi kk
theorem q_sides {i : Int32} (hi : xin i 2 = true) (pn : Nat) (hp : pc + 1 = pn) (hd : decode cc pc = .ok (.aaload, 1)) (kk : xB xLL y cc nL ret d lo pn lv ((.inr (.inr (some (312 + 18 * i.toNatClampNeg))) : xV) :: st) (ms, r) v w1) : xB xLL y cc nL ret d lo pc lv ((.inl (i) : xV) :: (.inr (.inr (some (311))) : xV) :: st) (ms, r) v w1 :=
  x_aald (t := 5) (by decide) pn hp hd (Or.inl xcell_Xs) hi kk
theorem q_signs {i : Int32} (hi : xin i 6 = true) (pn : Nat) (hp : pc + 1 = pn) (hd : decode cc pc = .ok (.aaload, 1)) (kk : xB xLL y cc nL ret d lo pn lv ((.inr (.inr (some (300 + (49 + i.toNatClampNeg)))) : xV) :: st) (ms, r) v w1) : xB xLL y cc nL ret d lo pc lv ((.inl (i) : xV) :: (.inr (.inr (some (348))) : xV) :: st) (ms, r) v w1 := by
  refine x_aald (t := 3) (by decide) pn hp hd (Or.inl xcell_Xg) hi ?_
  have e : 349 + 1 * i.toNatClampNeg = 300 + (49 + i.toNatClampNeg) := by omega
  show xB xLL y cc nL ret d lo pn lv ((.inr (.inr (some (349 + 1 * i.toNatClampNeg))) : xV) :: st) (ms, r) v w1
  rw [e]
  exact kk
theorem q_undo {i : Int32} (hi : xin i 40 = true) (pn : Nat) (hp : pc + 1 = pn) (hd : decode cc pc = .ok (.aaload, 1)) (kk : xB xLL y cc nL ret d lo pn lv ((.inr (.inr (r.1.2.2 6 i.toNatClampNeg)) : xV) :: st) (ms, r) v w1) : xB xLL y cc nL ret d lo pc lv ((.inl (i) : xV) :: (.inr (.inr (some (306))) : xV) :: st) (ms, r) v w1 :=
  x_aald (t := 4) (by decide) pn hp hd (Or.inl xcell_Xu) hi kk
theorem b_lald {b : Nat} {i : Int32} (pn : Nat) (hp : pc + 1 = pn) (hd : decode cc pc = .ok (.laload, 1)) {K : Int64 → Option ρ} (h : blr r b i K = some rr) (kk : ∀ x, K x = some rr → xB xLL y cc nL ret d lo pn lv ((.inr (.inl (x)) : xV) :: st) (ms, r) v w1) : xB xLL y cc nL ret d lo pc lv ((.inl (i) : xV) :: (.inr (.inr (some (301 + b))) : xV) :: st) (ms, r) v w1 := by
  unfold blr at h
  split at h
  · rename_i hi
    exact x_lald pn hp hd (Or.inl (xcell_XB hi.1).2) hi.2 (kk _ h)
  · cases h
theorem b_last {b : Nat} {i : Int32} {x : Int64} (pn : Nat) (hp : pc + 1 = pn) (hd : decode cc pc = .ok (.lastore, 1)) {K : xR → Option ρ} (h : blw r b i x K = some rr) (kk : ∀ r', K r' = some rr → xB xLL y cc nL ret d lo pn lv st (ms, r') v w1) : xB xLL y cc nL ret d lo pc lv ((.inr (.inl (x)) : xV) :: (.inl (i) : xV) :: (.inr (.inr (some (301 + b))) : xV) :: st) (ms, r) v w1 := by
  unfold blw at h
  split at h
  · rename_i hi
    have ht : b + 1 < 80 := by
      have := xbs_in hi.1
      simp only [List.mem_cons, List.not_mem_nil, or_false] at this
      omega
    refine x_last (w' := (ms, ((r.1.1, xuJ r.1.2.1 (b + 1) i.toNatClampNeg x, r.1.2.2), r.2))) pn hp hd (xcell_XB hi.1).2 hi.2 rfl rfl ?_ (kk _ h)
    have hh := xcell_Xw (ms := ms) (r := r) (s' := (r.1.1, xuJ r.1.2.1 (b + 1) i.toNatClampNeg x, r.1.2.2)) (t := b + 1) (e := .inl (2, 1, .inr (.inl (fun j => if j = i.toNatClampNeg then x else r.1.2.1 (b + 1) j)))) ht (fun a _ => rfl) (fun a ha => by funext b; simp [xuJ, ha]) (fun a _ => rfl) (by
      have e : xuJ r.1.2.1 (b + 1) i.toNatClampNeg x (b + 1) = fun j => if j = i.toNatClampNeg then x else r.1.2.1 (b + 1) j := by
        funext j
        simp [xuJ]
      rw [show 300 + (b + 1) = 301 + b by omega, ← e]
      exact (xcell_XB (ms := ms) (r := ((r.1.1, xuJ r.1.2.1 (b + 1) i.toNatClampNeg x, r.1.2.2), r.2)) hi.1).2)
    rw [show 300 + (b + 1) = 301 + b by omega] at hh
    exact hh
  · cases h
theorem b_alen {b : Nat} (hb : xbs b = true) (pn : Nat) (hp : pc + 1 = pn) (hd : decode cc pc = .ok (.arraylength, 1)) (kk : xB xLL y cc nL ret d lo pn lv ((.inl (1) : xV) :: st) (ms, r) v w1) : xB xLL y cc nL ret d lo pc lv ((.inr (.inr (some (301 + b))) : xV) :: st) (ms, r) v w1 :=
  x_alen (t := 2) (by decide) pn hp hd (Or.inl (xcell_XB hb).2) rfl kk
theorem q_endsl {g : Nat} (hg : g < 2) (pn : Nat) (hp : pc + 1 = pn) (hd : decode cc pc = .ok (.arraylength, 1)) (kk : xB xLL y cc nL ret d lo pn lv ((.inl (7) : xV) :: st) (ms, r) v w1) : xB xLL y cc nL ret d lo pc lv ((.inr (.inr (some (315 + 18 * g))) : xV) :: st) (ms, r) v w1 :=
  x_alen (t := 7) (by decide) pn hp hd (Or.inl (xcell_XE hg)) rfl kk
end XR1

/-! LAYER 0: the static layout: codes 300.. the system's fixed cells, 380.. the reference's; rows on the reference's cells -/
section XLay
def mfd : List (Nat × Nat) := [(0, 0), (3, 381), (0, 0), (0, 0), (0, 0), (3, 382), (3, 383), (3, 384), (3, 385), (3, 386), (3, 387), (3, 388), (0, 0), (0, 0), (3, 389), (0, 0), (3, 390), (3, 391), (3, 392), (3, 393), (3, 394), (0, 0), (3, 395), (3, 396), (3, 397), (3, 398), (3, 399), (3, 400), (3, 401), (3, 402), (3, 403), (1, 0), (3, 404), (0, 0), (0, 0)]
/-- the lengths of the reference's int arrays -/
def mlen (t : Nat) : Nat := match t with
  | 2 => 38
  | 3 => 38
  | 4 => 38
  | 5 => 152
  | 6 => 240
  | 7 => 5
  | 8 => 4
  | 9 => 1520
  | 10 => 4096
  | 11 => 12
  | 12 => 12
  | 13 => 38
  | 14 => 6
  | 15 => 12
  | 16 => 12
  | 17 => 38
  | 18 => 12
  | 19 => 38
  | 20 => 38
  | 21 => 6
  | 22 => 6
  | 23 => 38
  | 24 => 38
  | _ => 0
def xfd : List (Nat × Nat) := [(3, 376), (3, 301), (3, 302), (0, 0), (0, 0), (3, 303), (0, 0), (0, 0), (3, 304), (3, 305), (0, 0), (2, 0), (3, 306), (0, 0), (2, 0), (3, 308), (3, 309), (3, 310), (0, 0), (0, 0), (0, 0), (3, 311), (3, 348), (3, 355), (3, 356), (3, 358), (3, 359), (3, 360), (3, 367), (3, 374), (3, 375), (1, 0), (2, 0), (2, 0)]
/-- the lengths of the system's static int arrays, by their places behind 300 -/
def xlen (t : Nat) : Nat := match t with
  | 3 => 36
  | 4 => 240
  | 5 => 5
  | 8 => 4
  | 9 => 4096
  | 10 => 4096
  | 13 => 6
  | 14 => 6
  | 31 => 6
  | 32 => 6
  | 49 => 6
  | 50 => 6
  | 51 => 6
  | 52 => 6
  | 53 => 6
  | 54 => 6
  | 55 => 12
  | 58 => 6
  | 59 => 6
  | 74 => 12
  | 75 => 12
  | _ => 0
def xgr (b : Nat) (k : Nat) : Option xD := match k with
  | 0 => some (.inl (3, [(3, b + 1), (3, b + 2), (3, b + 3), (0, 0), (0, 0), (2, 0), (0, 0), (3, 300)]))
  | 1 => some (.inr (0, 6, 0, 0, 0))
  | 2 => some (.inr (0, 6, 0, 0, 0))
  | 3 => some (.inr (7, 7, 3, b + 4, 2))
  | k + 4 => if k % 2 = 0 then some (.inl (8, [(3, b + k + 5), (0, 0), (0, 0)])) else some (.inr (2, 1, 1, 0, 0))
def xLX (k : Nat) : Option xD := match k with
  | 300 => some (.inl (0, xfd))
  | 302 => some (.inr (1, 240, 0, 0, 0))
  | 306 => some (.inr (4, 40, 2, 0, 0))
  | 311 => some (.inr (5, 2, 3, 312, 18))
  | 348 => some (.inr (3, 6, 3, 349, 1))
  | _ => if 312 ≤ k ∧ k < 330 then xgr 312 (k - 312) else if 330 ≤ k ∧ k < 348 then xgr 330 (k - 330) else if 300 ≤ k ∧ 0 < xlen (k - 300) then some (.inr (0, xlen (k - 300), 0, 0, 0)) else none
def xLL : xL := fun k => if k < 380 then xLX k else if k = 380 then some (.inl (1, mfd)) else if k = 381 then some (.inr (1, 240, 0, 0, 0)) else if k < 405 then some (.inr (0, mlen (k - 380), 0, 0, 0)) else none
def xu (S : Nat → Nat → Int32) (i j : Nat) (v : Int32) : Nat → Nat → Int32 := fun a b => if a = i then (if b = j then v else S a b) else S a b
def xuJ (S : Nat → Nat → Int64) (i j : Nat) (v : Int64) : Nat → Nat → Int64 := fun a b => if a = i then (if b = j then v else S a b) else S a b
def xuP (S : Nat → Nat → Option Nat) (i j : Nat) (v : Option Nat) : Nat → Nat → Option Nat := fun a b => if a = i then (if b = j then v else S a b) else S a b
theorem xLL_arr {t : Nat} (h : 0 < mlen t) : 2 ≤ t ∧ t < 25 := by
  by_cases h1 : t < 2
  · have : t = 0 ∨ t = 1 := by omega
    rcases this with rfl | rfl <;> simp [mlen] at h
  · by_cases h2 : t < 25
    · exact ⟨by omega, h2⟩
    · exfalso
      unfold mlen at h
      split at h <;> omega
theorem xcell_M {ms : xS} {r : xS × (Nat → Option xE) × Nat × Nat} {t : Nat} (h : 0 < mlen t) : xcell xLL (ms, r) (380 + t) = some (.inl (0, mlen t, .inl (ms.1 t))) := by
  obtain ⟨h1, h2⟩ := xLL_arr h
  have e : xLL (380 + t) = some (.inr (0, mlen t, 0, 0, 0)) := by
    unfold xLL
    rw [if_neg (by omega), if_neg (by omega), if_neg (by omega), if_pos (by omega), show 380 + t - 380 = t by omega]
  unfold xcell
  rw [e]
  show some (if 380 ≤ 380 + t ∧ 380 + t < 405 then _ else _) = _
  rw [if_pos (by omega), show 380 + t - 380 = t by omega]
  rfl
def mV (ms : xS) (k : Nat) : xV := match mfd[k]? with
  | some (0, _) => .inl (ms.1 0 k)
  | some (1, _) => .inr (.inl (ms.2.1 0 k))
  | some (2, _) => .inr (.inr (ms.2.2 0 k))
  | some (3, c) => .inr (.inr (some c))
  | _ => .inr (.inr none)
theorem xcell_Mo {ms : xS} {r : xS × (Nat → Option xE) × Nat × Nat} : xcell xLL (ms, r) 380 = some (.inr (.inl (1, mV ms))) := rfl
theorem xcell_Mt {ms : xS} {r : xS × (Nat → Option xE) × Nat × Nat} : xcell xLL (ms, r) 381 = some (.inl (1, 240, .inl (ms.1 1))) := rfl
theorem xsd_eq {S S' : xS} {i : Nat} {d : xD} (h1 : S'.1 i = S.1 i) (h2 : S'.2.1 i = S.2.1 i) (h3 : S'.2.2 i = S.2.2 i) : xsd S' i d = xsd S i d := by
  unfold xsd
  rw [h1, h2, h3]
/-- a change of the reference's store at one place shows in one cell -/
theorem xcell_Mw {ms ms' : xS} {r : xS × (Nat → Option xE) × Nat × Nat} {t : Nat} {e : xE} (ht : t < 25) (h1 : ∀ a, a ≠ t → ms'.1 a = ms.1 a) (h2 : ∀ a, a ≠ t → ms'.2.1 a = ms.2.1 a) (h3 : ∀ a, a ≠ t → ms'.2.2 a = ms.2.2 a) (he : xcell xLL (ms', r) (380 + t) = some e) :
    ∀ q, xcell xLL (ms', r) q = if q = 380 + t then some e else xcell xLL (ms, r) q := by
  intro q
  by_cases hq : q = 380 + t
  · rw [if_pos hq, hq, he]
  · rw [if_neg hq]
    unfold xcell
    cases xLL q with
    | none => rfl
    | some d =>
      show some (if 380 ≤ q ∧ q < 405 then _ else _) = some (if 380 ≤ q ∧ q < 405 then _ else _)
      by_cases h : 380 ≤ q ∧ q < 405
      · rw [if_pos h, if_pos h, xsd_eq (h1 _ (by omega)) (h2 _ (by omega)) (h3 _ (by omega))]
      · rw [if_neg h, if_neg h]
/-! the words of the pure functions -/
def lt {α ρ : Type} (e : α) (K : α → Option ρ) : Option ρ := K e
def cl {α ρ : Type} (e : Option α) (K : α → Option ρ) : Option ρ := e.bind K
def nz {ρ : Type} (b : Int32) (K : Option ρ) : Option ρ := if b = 0 then none else K
def nzl {ρ : Type} (b : Int64) (K : Option ρ) : Option ρ := if b = 0 then none else K
def zb {ρ : Type} (b : Int32) (K : Option ρ) : Option ρ := if b = 0 ∨ b = 1 then K else none
def mrd {ρ : Type} (ms : xS) (t : Nat) (i : Int32) (K : Int32 → Option ρ) : Option ρ := if xin i (mlen t) = true then K (ms.1 t i.toNatClampNeg) else none
def mwr {ρ : Type} (ms : xS) (t : Nat) (i v : Int32) (K : xS → Option ρ) : Option ρ := if xin i (mlen t) = true then K (xu ms.1 t i.toNatClampNeg v, ms.2) else none
def mrb {ρ : Type} (ms : xS) (i : Int32) (K : Int32 → Option ρ) : Option ρ := if xin i 240 = true then K (ms.1 1 i.toNatClampNeg) else none
def mwb {ρ : Type} (ms : xS) (i v : Int32) (K : xS → Option ρ) : Option ρ := if xin i 240 = true then K (xu ms.1 1 i.toNatClampNeg v.toInt8.toInt32, ms.2) else none
def mpi {ρ : Type} (ms : xS) (k : Nat) (v : Int32) (K : xS → Option ρ) : Option ρ := K (xu ms.1 0 k v, ms.2)
def mpl {ρ : Type} (ms : xS) (k : Nat) (v : Int64) (K : xS → Option ρ) : Option ρ := K (ms.1, xuJ ms.2.1 0 k v, ms.2.2)
section MR
variable {y : MethodName} {cc : ByteArray} {nL : Nat} {ret : Option FieldType} {d lo pc : Nat} {lv : List (Option xV)} {st : List xV} {L : xL} {w : xW} {ms : xS} {r : xS × (Nat → Option xE) × Nat × Nat} {v : Option xV} {w1 : xW} {ρ : Type} {rr : ρ}
theorem x_lti {e : Int32} {K : Int32 → Option ρ} (h : lt e K = some rr) (kk : ∀ x, K x = some rr → xB L y cc nL ret d lo pc lv ((.inl x : xV) :: st) w v w1) : xB L y cc nL ret d lo pc lv ((.inl e : xV) :: st) w v w1 := kk e h
theorem x_ltl {e : Int64} {K : Int64 → Option ρ} (h : lt e K = some rr) (kk : ∀ x, K x = some rr → xB L y cc nL ret d lo pc lv ((.inr (.inl x) : xV) :: st) w v w1) : xB L y cc nL ret d lo pc lv ((.inr (.inl e) : xV) :: st) w v w1 := kk e h
theorem x_ltr {e : Option Nat} {K : Option Nat → Option ρ} (h : lt e K = some rr) (kk : ∀ x, K x = some rr → xB L y cc nL ret d lo pc lv ((.inr (.inr x) : xV) :: st) w v w1) : xB L y cc nL ret d lo pc lv ((.inr (.inr e) : xV) :: st) w v w1 := kk e h
theorem x_iincL {i : Nat} {n : Int} {x : Int32} (z : Int32) (pn : Nat) (hp : pc + 3 = pn) (hd : decode cc pc = .ok (.iinc i n, 3)) (hz : Int32.ofInt n = z) (hx : lv[i]? = some (some (.inl x))) (hn : i < nL) {K : Int32 → Option ρ} (h : lt (x + z) K = some rr) (kk : ∀ q, K q = some rr → xB L y cc nL ret d lo pn (xset lv i (.inl q)) st w v w1) : xB L y cc nL ret d lo pc lv st w v w1 :=
  x_iinc z pn hp hd hz hx hn rfl (kk _ h)
theorem x_cl {α : Type} {e : Option α} {K : α → Option ρ} {P : Prop} (h : cl e K = some rr) (kk : ∀ q, e = some q → K q = some rr → P) : P := by
  cases e with
  | none => cases h
  | some q => exact kk q rfl h
theorem x_nz {b : Int32} {K : Option ρ} {P : Prop} (h : nz b K = some rr) (kk : ¬ b = 0 → K = some rr → P) : P := by
  unfold nz at h
  by_cases hb : b = 0
  · rw [if_pos hb] at h; cases h
  · rw [if_neg hb] at h; exact kk hb h
theorem x_nzl {b : Int64} {K : Option ρ} {P : Prop} (h : nzl b K = some rr) (kk : ¬ b = 0 → K = some rr → P) : P := by
  unfold nzl at h
  by_cases hb : b = 0
  · rw [if_pos hb] at h; cases h
  · rw [if_neg hb] at h; exact kk hb h
theorem x_zb {b : Int32} {K : Option ρ} {P : Prop} (h : zb b K = some rr) (kk : (b = 0 ∨ b = 1) → K = some rr → P) : P := by
  unfold zb at h
  by_cases hb : b = 0 ∨ b = 1
  · rw [if_pos hb] at h; exact kk hb h
  · rw [if_neg hb] at h; cases h
theorem x_sw {x : Int32} (k : Int32) {A B : Option ρ} {P : Prop} (h : (if x = k then A else B) = some rr) (kt : x = k → A = some rr → P) (kf : ¬ x = k → B = some rr → P) : P := by
  by_cases hc : x = k
  · rw [if_pos hc] at h; exact kt hc h
  · rw [if_neg hc] at h; exact kf hc h
theorem x_ne {x k : Int32} (h : ¬ x = k) : x.toInt ≠ k.toInt := fun e => h (Int32.toInt_inj.mp e)
theorem x_ldcS {ix k : Nat} {tx : String} (pn : Nat) (hp : pc + 2 = pn) (hd : decode cc pc = .ok (.ldc ix, 2)) (hs : (y.cls, ix, tx, k) ∈ xlds) (hk : k < 300) (kk : xB L y cc nL ret d lo pn lv ((.inr (.inr (some k)) : xV) :: st) w v w1) : xB L y cc nL ret d lo pc lv st w v w1 := by
  subst hp
  refine xB.read (fun p l e R s m args below meth c H locs k' n' Q g ls hx hb hO hw hK hG hS kk => ?_) kk
  have e1 : g.2.2.2.1 k = xad g k := by unfold xad; rw [if_pos hk]
  have h2 := hK.2.2.1 _ hs
  rw [show g.2.2.2.1 (y.cls, ix, tx, k).2.2.2 = xad g k from e1] at h2
  exact va_ldcS hx hb hO h2 hd kk
theorem x_gets {ix : Nat} {C n de : String} {x : xV} (pn : Nat) (hp : pc + 3 = pn) (hd : decode cc pc = .ok (.getstatic ix, 3)) (hs : (C, n, de, x) ∈ xstat) (hl : Cond.fieldLink y.cls ix C n de ∈ lw_all) (kk : xB L y cc nL ret d lo pn lv (x :: st) w v w1) : xB L y cc nL ret d lo pc lv st w v w1 := by
  subst hp
  refine xB.read (fun p l e R s m args below meth c H locs k' n' Q g ls hx hb hO hw hK hG hS kk => ?_) kk
  obtain ⟨cf, kf, fi, f, a, cell, h1, h2, h3, h4, h5, h6, h7, h8⟩ := hK.2.1 _ hs
  exact W.gets hx hb hO (hw _ hl) h1 h2 h3 h4 (by rw [hS.2.1 a (Array.getElem?_eq_some_iff.mp h5).1]; exact h5) (fun e => by rw [e] at h6; cases h6) h7 rfl hd kk
theorem m_get {ix k : Nat} (pn : Nat) (hp : pc + 3 = pn) (hd : decode cc pc = .ok (.getfield ix, 3)) (hk : k < 35) (hl : Cond.fieldLink y.cls ix (TX5 k).1 (TX5 k).2.1 (TX5 k).2.2.1 ∈ lw_all) {x : xV} (hv : mV ms k = x) (kk : xB xLL y cc nL ret d lo pn lv (x :: st) (ms, r) v w1) : xB xLL y cc nL ret d lo pc lv ((.inr (.inr (some 380)) : xV) :: st) (ms, r) v w1 :=
  x_getf (ci := 1) (C := RX5) (T := TX5) (N := 35) (V := mV ms) pn hp hd (Or.inl xcell_Mo) rfl in_X5 hk hl hv kk
theorem m_puti {ix k z : Nat} {x : Int32} (pn : Nat) (hp : pc + 3 = pn) (hd : decode cc pc = .ok (.putfield ix, 3)) (hk : k < 35) (hf : mfd[k]? = some (0, z)) (hty : tyX5 k = .int ∨ tyX5 k = .boolean ∧ (x = 0 ∨ x = 1)) (hfin : (TX5 k).2.2.2 = false) (hl : Cond.fieldLink y.cls ix (TX5 k).1 (TX5 k).2.1 (TX5 k).2.2.1 ∈ lw_all) {K : xS → Option ρ} (h : mpi ms k x K = some rr)
    (kk : ∀ ms', K ms' = some rr → xB xLL y cc nL ret d lo pn lv st (ms', r) v w1) : xB xLL y cc nL ret d lo pc lv ((.inl x : xV) :: (.inr (.inr (some 380)) : xV) :: st) (ms, r) v w1 := by
  refine x_putf (ci := 1) (C := RX5) (T := TX5) (N := 35) (V := mV ms) (k := k) (w' := ((xu ms.1 0 k x, ms.2), r)) pn hp hd xcell_Mo rfl in_X5 tyX5 tyX5_ok nmX5 hk hl hfin (fun g => ?_) (fun g => ?_) rfl rfl ?_ (kk _ h)
  · rcases hty with e | ⟨e, e2⟩
    · rw [e]; rfl
    · rw [e]; rcases e2 with rfl | rfl <;> rfl
  · rcases hty with e | ⟨e, e2⟩
    · rw [e]; rfl
    · rw [e]; rcases e2 with rfl | rfl <;> rfl
  · refine xcell_Mw (t := 0) (by decide) (fun a ha => ?_) (fun a _ => rfl) (fun a _ => rfl) ?_
    · funext b; simp [xu, ha]
    · rw [show 380 + 0 = 380 from rfl, xcell_Mo]
      congr 4
      funext j
      by_cases hj : j = k
      · subst hj
        simp [mV, hf, xu]
      · simp [mV, xu, hj]
theorem m_putl {ix k z : Nat} {x : Int64} (pn : Nat) (hp : pc + 3 = pn) (hd : decode cc pc = .ok (.putfield ix, 3)) (hk : k < 35) (hf : mfd[k]? = some (1, z)) (hty : tyX5 k = .long) (hfin : (TX5 k).2.2.2 = false) (hl : Cond.fieldLink y.cls ix (TX5 k).1 (TX5 k).2.1 (TX5 k).2.2.1 ∈ lw_all) {K : xS → Option ρ} (h : mpl ms k x K = some rr)
    (kk : ∀ ms', K ms' = some rr → xB xLL y cc nL ret d lo pn lv st (ms', r) v w1) : xB xLL y cc nL ret d lo pc lv ((.inr (.inl x) : xV) :: (.inr (.inr (some 380)) : xV) :: st) (ms, r) v w1 := by
  refine x_putf (ci := 1) (C := RX5) (T := TX5) (N := 35) (V := mV ms) (k := k) (w' := ((ms.1, xuJ ms.2.1 0 k x, ms.2.2), r)) pn hp hd xcell_Mo rfl in_X5 tyX5 tyX5_ok nmX5 hk hl hfin (fun g => ?_) (fun g => ?_) rfl rfl ?_ (kk _ h)
  · rw [hty]; rfl
  · rw [hty]; rfl
  · refine xcell_Mw (t := 0) (by decide) (fun a _ => rfl) (fun a ha => ?_) (fun a _ => rfl) ?_
    · funext b; simp [xuJ, ha]
    · rw [show 380 + 0 = 380 from rfl, xcell_Mo]
      congr 4
      funext j
      by_cases hj : j = k
      · subst hj
        simp [mV, hf, xuJ]
      · simp [mV, xuJ, hj]
theorem xin_pos {i : Int32} {n : Nat} (h : xin i n = true) : 0 < n := Nat.lt_of_le_of_lt (Nat.zero_le _) (xin_lt h)
theorem m_iald {t : Nat} {i : Int32} (pn : Nat) (hp : pc + 1 = pn) (hd : decode cc pc = .ok (.iaload, 1)) {K : Int32 → Option ρ} (h : mrd ms t i K = some rr) (kk : ∀ x, K x = some rr → xB xLL y cc nL ret d lo pn lv ((.inl x : xV) :: st) (ms, r) v w1) : xB xLL y cc nL ret d lo pc lv ((.inl i : xV) :: (.inr (.inr (some (380 + t))) : xV) :: st) (ms, r) v w1 := by
  unfold mrd at h
  by_cases hi : xin i (mlen t) = true
  · rw [if_pos hi] at h
    exact x_iald pn hp hd (Or.inl (xcell_M (xin_pos hi))) hi (kk _ h)
  · rw [if_neg hi] at h; cases h
theorem m_iast {t : Nat} {i x : Int32} (pn : Nat) (hp : pc + 1 = pn) (hd : decode cc pc = .ok (.iastore, 1)) {K : xS → Option ρ} (h : mwr ms t i x K = some rr) (kk : ∀ ms', K ms' = some rr → xB xLL y cc nL ret d lo pn lv st (ms', r) v w1) : xB xLL y cc nL ret d lo pc lv ((.inl x : xV) :: (.inl i : xV) :: (.inr (.inr (some (380 + t))) : xV) :: st) (ms, r) v w1 := by
  unfold mwr at h
  by_cases hi : xin i (mlen t) = true
  · rw [if_pos hi] at h
    refine x_iast (w' := ((xu ms.1 t i.toNatClampNeg x, ms.2), r)) pn hp hd (xcell_M (xin_pos hi)) hi rfl rfl ?_ (kk _ h)
    refine xcell_Mw (xLL_arr (xin_pos hi)).2 (fun a ha => ?_) (fun a _ => rfl) (fun a _ => rfl) ?_
    · funext b; simp [xu, ha]
    · have e : xu ms.1 t i.toNatClampNeg x t = fun j => if j = i.toNatClampNeg then x else ms.1 t j := by
        funext j
        simp [xu]
      rw [xcell_M (xin_pos hi), ← e]
  · rw [if_neg hi] at h; cases h
theorem m_bald {i : Int32} (pn : Nat) (hp : pc + 1 = pn) (hd : decode cc pc = .ok (.baload, 1)) {K : Int32 → Option ρ} (h : mrb ms i K = some rr) (kk : ∀ x, K x = some rr → xB xLL y cc nL ret d lo pn lv ((.inl x : xV) :: st) (ms, r) v w1) : xB xLL y cc nL ret d lo pc lv ((.inl i : xV) :: (.inr (.inr (some 381)) : xV) :: st) (ms, r) v w1 := by
  unfold mrb at h
  by_cases hi : xin i 240 = true
  · rw [if_pos hi] at h
    exact x_bald pn hp hd (Or.inl xcell_Mt) hi (kk _ h)
  · rw [if_neg hi] at h; cases h
theorem m_bast {i x : Int32} (pn : Nat) (hp : pc + 1 = pn) (hd : decode cc pc = .ok (.bastore, 1)) {K : xS → Option ρ} (h : mwb ms i x K = some rr) (kk : ∀ ms', K ms' = some rr → xB xLL y cc nL ret d lo pn lv st (ms', r) v w1) : xB xLL y cc nL ret d lo pc lv ((.inl x : xV) :: (.inl i : xV) :: (.inr (.inr (some 381)) : xV) :: st) (ms, r) v w1 := by
  unfold mwb at h
  by_cases hi : xin i 240 = true
  · rw [if_pos hi] at h
    refine x_bast (w' := ((xu ms.1 1 i.toNatClampNeg x.toInt8.toInt32, ms.2), r)) pn hp hd xcell_Mt hi rfl rfl ?_ (kk _ h)
    refine xcell_Mw (t := 1) (by decide) (fun a ha => ?_) (fun a _ => rfl) (fun a _ => rfl) ?_
    · funext b; simp [xu, ha]
    · have e : xu ms.1 1 i.toNatClampNeg x.toInt8.toInt32 1 = fun j => if j = i.toNatClampNeg then x.toInt8.toInt32 else ms.1 1 j := by
        funext j
        simp [xu]
      rw [show 380 + 1 = 381 from rfl, xcell_Mt, ← e]
  · rw [if_neg hi] at h; cases h
end MR
end XLay
theorem xle.z {u : List (Option xV)} : xle [] u := trivial
theorem xle.m {t : List (Option xV)} (h : xle t []) : xle (none :: t) [] := h
theorem xle.n {t u : List (Option xV)} {b : Option xV} (h : xle t u) : xle (none :: t) (b :: u) := h
theorem xle.s {t u : List (Option xV)} {a : xV} (h : xle t u) : xle (some a :: t) (some a :: u) := ⟨rfl, h⟩
abbrev jrem (a b : Int32) : Int32 := a - a / b * b
abbrev jreml (a b : Int64) : Int64 := a - a / b * b
abbrev jshl (a b : Int32) : Int32 := a <<< (b &&& 31)
abbrev jshr (a b : Int32) : Int32 := a >>> (b &&& 31)
abbrev jushr (a b : Int32) : Int32 := (a.toUInt32 >>> (b.toUInt32 &&& Int32.toUInt32 31)).toInt32
abbrev jlushr (a : Int64) (b : Int32) : Int64 := (a.toUInt64 >>> (b.toInt64.toUInt64 &&& Int64.toUInt64 63)).toInt64
abbrev jlshl (a : Int64) (b : Int32) : Int64 := a <<< (b.toInt64 &&& 63)
def xFU : Nat := 2000
section MC
variable {L : xL} {y : MethodName} {cc : ByteArray} {nL : Nat} {ret : Option FieldType} {d lo pc : Nat} {lv : List (Option xV)} {st : List xV} {w : xW} {ms : xS} {r : xS × (Nat → Option xE) × Nat × Nat} {v : Option xV} {w1 : xW}
variable {y2 : MethodName} {cc2 : ByteArray} {nL2 : Nat} {ret2 : Option FieldType} {d2 lo2 ix na : Nat} {as : List xV}
theorem x_callSi {a : Int32} {w2 : xW} (rest : List xV) (pn : Nat) (hp : pc + 3 = pn) (hd : decode cc pc = .ok (.invokestatic ix, 3)) (hct : xCt L y2 cc2 nL2 ret2 d2 lo2 as w (some (.inl a)) w2) (hG : GoodIn lw_all (va_wsS y.cls ix y2 (ws_ y2 cc2 nL2 ret2))) (hy2 : xHd y2 na) (hn : as.length = na) (hroom : d2 + 1 ≤ d ∧ 8 + (nL2 + 11) + lo2 ≤ lo) (hr : (rest.map xw).sum ≤ 8) (hst : st = as.reverse ++ rest)
    (kk : xB L y cc nL ret d lo pn lv ((.inl a : xV) :: rest) w2 v w1) : xB L y cc nL ret d lo pc lv st w v w1 := x_callS pn hp hd hct hG hy2 hn hroom hr hst kk
theorem x_callSv {w2 : xW} (rest : List xV) (pn : Nat) (hp : pc + 3 = pn) (hd : decode cc pc = .ok (.invokestatic ix, 3)) (hct : xCt L y2 cc2 nL2 ret2 d2 lo2 as w none w2) (hG : GoodIn lw_all (va_wsS y.cls ix y2 (ws_ y2 cc2 nL2 ret2))) (hy2 : xHd y2 na) (hn : as.length = na) (hroom : d2 + 1 ≤ d ∧ 8 + (nL2 + 11) + lo2 ≤ lo) (hr : (rest.map xw).sum ≤ 8) (hst : st = as.reverse ++ rest)
    (kk : xB L y cc nL ret d lo pn lv rest w2 v w1) : xB L y cc nL ret d lo pc lv st w v w1 := x_callS pn hp hd hct hG hy2 hn hroom hr hst kk
theorem m_callVi {a : Int32} {ms2 : xS} (rest : List xV) (pn : Nat) (hp : pc + 3 = pn) (hd : decode cc pc = .ok (.invokevirtual ix, 3)) (hct : xCt xLL y2 cc2 nL2 ret2 d2 lo2 ((.inr (.inr (some 380)) : xV) :: as) (ms, r) (some (.inl a)) (ms2, r)) (hG : GoodIn lw_all (wsV y.cls ix RX5 y2 (ws_ y2 cc2 nL2 ret2))) (hC : y2.cls = RX5) (hy2 : xHd y2 na) (hn : as.length = na) (hroom : d2 + 1 ≤ d ∧ 8 + (nL2 + 11) + lo2 ≤ lo) (hr : (rest.map xw).sum ≤ 8) (hst : st = as.reverse ++ (.inr (.inr (some 380)) : xV) :: rest)
    (kk : xB xLL y cc nL ret d lo pn lv ((.inl a : xV) :: rest) (ms2, r) v w1) : xB xLL y cc nL ret d lo pc lv st (ms, r) v w1 := x_callV (C := RX5) (T := TX5) (N := 35) pn hp hd hct (Or.inl xcell_Mo) rfl hG hC hy2 hn hroom hr hst kk
theorem m_callVv {ms2 : xS} (rest : List xV) (pn : Nat) (hp : pc + 3 = pn) (hd : decode cc pc = .ok (.invokevirtual ix, 3)) (hct : xCt xLL y2 cc2 nL2 ret2 d2 lo2 ((.inr (.inr (some 380)) : xV) :: as) (ms, r) none (ms2, r)) (hG : GoodIn lw_all (wsV y.cls ix RX5 y2 (ws_ y2 cc2 nL2 ret2))) (hC : y2.cls = RX5) (hy2 : xHd y2 na) (hn : as.length = na) (hroom : d2 + 1 ≤ d ∧ 8 + (nL2 + 11) + lo2 ≤ lo) (hr : (rest.map xw).sum ≤ 8) (hst : st = as.reverse ++ (.inr (.inr (some 380)) : xV) :: rest)
    (kk : xB xLL y cc nL ret d lo pn lv rest (ms2, r) v w1) : xB xLL y cc nL ret d lo pc lv st (ms, r) v w1 := x_callV (C := RX5) (T := TX5) (N := 35) pn hp hd hct (Or.inl xcell_Mo) rfl hG hC hy2 hn hroom hr hst kk
end MC
theorem x_out_0_6 {x : Int32} (h0 : ¬ x = 0) (h1 : ¬ x = 1) (h2 : ¬ x = 2) (h3 : ¬ x = 3) (h4 : ¬ x = 4) (h5 : ¬ x = 5) (h6 : ¬ x = 6) : x.toInt < 0 ∨ 6 < x.toInt := by
  have a0 : x.toInt ≠ 0 := x_ne h0
  have a1 : x.toInt ≠ 1 := x_ne h1
  have a2 : x.toInt ≠ 2 := x_ne h2
  have a3 : x.toInt ≠ 3 := x_ne h3
  have a4 : x.toInt ≠ 4 := x_ne h4
  have a5 : x.toInt ≠ 5 := x_ne h5
  have a6 : x.toInt ≠ 6 := x_ne h6
  omega
theorem x_out_0_7 {x : Int32} (h0 : ¬ x = 0) (h1 : ¬ x = 1) (h2 : ¬ x = 2) (h3 : ¬ x = 3) (h4 : ¬ x = 4) (h5 : ¬ x = 5) (h6 : ¬ x = 6) (h7 : ¬ x = 7) : x.toInt < 0 ∨ 7 < x.toInt := by
  have b := x_out_0_6 h0 h1 h2 h3 h4 h5 h6
  have a7 : x.toInt ≠ 7 := x_ne h7
  omega
theorem x_out_0_2 {x : Int32} (h0 : ¬ x = 0) (h1 : ¬ x = 1) (h2 : ¬ x = 2) : x.toInt < 0 ∨ 2 < x.toInt := by
  have a0 : x.toInt ≠ 0 := x_ne h0
  have a1 : x.toInt ≠ 1 := x_ne h1
  have a2 : x.toInt ≠ 2 := x_ne h2
  omega
theorem pl_X5 : plainName RX5 = true := by decide
theorem pl_X1 : plainName RX1 = true := by decide
theorem pl_J18 : plainName RJ18 = true := by decide
section XMath
variable {L : xL} {y : MethodName} {cc : ByteArray} {nL : Nat} {ret : Option FieldType} {d lo pc : Nat} {lv : List (Option xV)} {st : List xV} {w : xW} {v : Option xV} {w1 : xW}
theorem xB.liftR {pc' : Nat} {st' : List xV}
    (h : ∀ (p : Program) (l : Launch) (e : Env) (R : Room) (s : State) (m : MethodId) (args : Array Value) (below : List Frame) (meth : Method) (c : Code) (H : Heap) (locs : List Loc) (k n : Nat) (Q : State → Prop) (g : xG) (ls : Array Slot), p.tables.exec = Jvm.exec → c.code = cc → c.maxLocals = ls.size → s.vm.findClass y.cls = some m.cls → (∀ w ∈ lw_all, w.before args s = true) → R.frames = d → R.locals = lo → k ≤ R.cells → n ≤ R.slots →
      W p l e R s m args below meth c H locs k n Q (F0 m pc' ls (st'.map (xvv g))) → W p l e R s m args below meth c H locs k n Q (F0 m pc ls (st.map (xvv g))))
    (k : xB L y cc nL ret d lo pc' lv st' w v w1) : xB L y cc nL ret d lo pc lv st w v w1 := by
  refine ⟨k.1, k.2.1, fun p l e R s m args below meth c g k0 n0 C H locs k' n' ls h1 h2 h3 h4 h5 => ?_⟩
  have k1 := k.1
  have k2 := k.2.1
  obtain ⟨hx, hb, hml, hret, hO, hw, hlk, hnm, hK, hG, hRf, hRl, hRc, hRs⟩ := C
  exact h p l e R s m args below meth c H locs k' n' _ g ls hx hb (hml.trans h5.1.symm) hO hw hRf hRl (by rw [hRc]; omega) (by rw [hRs]; omega) (k.2.2 p l e R s m args below meth c g k0 n0 ⟨hx, hb, hml, hret, hO, hw, hlk, hnm, hK, hG, hRf, hRl, hRc, hRs⟩ H locs k' n' ls h1 h2 h3 h4 h5)
abbrev jmax (x z : Int32) : Int32 := if x < z then z else x
abbrev jmin (x z : Int32) : Int32 := if z < x then z else x
abbrev jabs (x : Int32) : Int32 := if 0 ≤ x then x else 0 - x
theorem x_mmax {ix : Nat} {x z : Int32} {rest : List xV} (pn : Nat) (hp : pc + 3 = pn) (hd : decode cc pc = .ok (.invokestatic ix, 3)) (hl : Cond.methodLink y.cls ix Lib.Math.max.name ∈ lw_all) (h1 : Cond.static Lib.Math.max.name ∈ lw_all) (h2 : Cond.initialized "java/lang/Math" ∈ lw_all) (h3 : Cond.code Lib.Math.max.name Lib.Math.max.code 2 (some .int) ∈ lw_all) (hroom : 1 ≤ d ∧ (rest.map xw).sum + 13 ≤ lo)
    (k : xB L y cc nL ret d lo pn lv ((.inl (jmax x z) : xV) :: rest) w v w1) : xB L y cc nL ret d lo pc lv ((.inl z : xV) :: (.inl x : xV) :: rest) w v w1 := by
  subst hp
  exact xB.liftR (fun _ _ _ _ _ _ _ _ _ _ _ _ _ _ _ g ls hx hb hml hO hw hRf hRl hc hs k => va_mmax hx hb hml hO (hw _ hl) (hw _ h1) (hw _ h2) (hw _ h3) (by rw [hRf]; exact hroom.1) (by rw [hRl, xrsum]; exact hroom.2) hc hs hd k) k
theorem x_mmin {ix : Nat} {x z : Int32} {rest : List xV} (pn : Nat) (hp : pc + 3 = pn) (hd : decode cc pc = .ok (.invokestatic ix, 3)) (hl : Cond.methodLink y.cls ix Lib.Math.min.name ∈ lw_all) (h1 : Cond.static Lib.Math.min.name ∈ lw_all) (h2 : Cond.initialized "java/lang/Math" ∈ lw_all) (h3 : Cond.code Lib.Math.min.name Lib.Math.min.code 2 (some .int) ∈ lw_all) (hroom : 1 ≤ d ∧ (rest.map xw).sum + 13 ≤ lo)
    (k : xB L y cc nL ret d lo pn lv ((.inl (jmin x z) : xV) :: rest) w v w1) : xB L y cc nL ret d lo pc lv ((.inl z : xV) :: (.inl x : xV) :: rest) w v w1 := by
  subst hp
  exact xB.liftR (fun _ _ _ _ _ _ _ _ _ _ _ _ _ _ _ g ls hx hb hml hO hw hRf hRl hc hs k => va_mmin hx hb hml hO (hw _ hl) (hw _ h1) (hw _ h2) (hw _ h3) (by rw [hRf]; exact hroom.1) (by rw [hRl, xrsum]; exact hroom.2) hc hs hd k) k
theorem x_mabs {ix : Nat} {x : Int32} {rest : List xV} (pn : Nat) (hp : pc + 3 = pn) (hd : decode cc pc = .ok (.invokestatic ix, 3)) (hl : Cond.methodLink y.cls ix Lib.Math.abs.name ∈ lw_all) (h1 : Cond.static Lib.Math.abs.name ∈ lw_all) (h2 : Cond.initialized "java/lang/Math" ∈ lw_all) (h3 : Cond.code Lib.Math.abs.name Lib.Math.abs.code 1 (some .int) ∈ lw_all) (hroom : 1 ≤ d ∧ (rest.map xw).sum + 13 ≤ lo)
    (k : xB L y cc nL ret d lo pn lv ((.inl (jabs x) : xV) :: rest) w v w1) : xB L y cc nL ret d lo pc lv ((.inl x : xV) :: rest) w v w1 := by
  subst hp
  exact xB.liftR (fun _ _ _ _ _ _ _ _ _ _ _ _ _ _ _ g ls hx hb hml hO hw hRf hRl hc hs k => va_mabs hx hb hml hO (hw _ hl) (hw _ h1) (hw _ h2) (hw _ h3) (by rw [hRf]; exact hroom.1) (by rw [hRl, xrsum]; exact hroom.2) hc hs hd k) k
end XMath

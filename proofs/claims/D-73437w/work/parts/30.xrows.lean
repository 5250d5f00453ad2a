/-! LAYER 0: rows on the system's static cells and on the dyn heap -/
abbrev xR : Type := xS × (Nat → Option xE) × Nat × Nat
def xdl (L : xL) (r : xR) (a : Nat) : Option xE := match L a with
  | none => r.2.1 a
  | some _ => none
def xds (r : xR) (a : Nat) (e : xE) : xR := (r.1, (fun q => if q = a then some e else r.2.1 q), r.2.2)
def xal (r : xR) (e : xE) (n : Nat) : xR := (r.1, (fun q => if q = 300 + r.2.2.1 then some e else r.2.1 q), r.2.2.1 + 1, r.2.2.2 + n)
theorem xdl_cell {L : xL} {ms : xS} {r : xR} {a : Nat} {e : xE} (h : xdl L r a = some e) : xcell L (ms, r) a = some e ∧ L a = none := by
  unfold xdl at h
  unfold xcell
  cases hL : L a with
  | none => rw [hL] at h; exact ⟨h, rfl⟩
  | some d => rw [hL] at h; cases h
theorem xds_cell {L : xL} {ms : xS} {r : xR} {a : Nat} {e : xE} (hL : L a = none) (q : Nat) : xcell L (ms, xds r a e) q = if q = a then some e else xcell L (ms, r) q := by
  by_cases hq : q = a
  · subst hq
    rw [if_pos rfl]
    unfold xcell
    rw [hL]
    simp [xds]
  · rw [if_neg hq]
    unfold xcell
    cases L q with
    | none => simp [xds, hq]
    | some d => rfl
def xV0 (s : xS) (k : Nat) : xV := match xfd[k]? with
  | some (0, _) => .inl (s.1 0 k)
  | some (1, _) => .inr (.inl (s.2.1 0 k))
  | some (2, _) => .inr (.inr (s.2.2 0 k))
  | some (3, c) => .inr (.inr (some c))
  | _ => .inr (.inr none)
def gfd (g : Nat) : List (Nat × Nat) := [(3, 300 + (13 + 18 * g)), (3, 300 + (14 + 18 * g)), (3, 315 + 18 * g), (0, 0), (0, 0), (2, 0), (0, 0), (3, 300)]
def gV (s : xS) (g : Nat) (k : Nat) : xV := match (gfd g)[k]? with
  | some (0, _) => .inl (s.1 (12 + 18 * g) k)
  | some (1, _) => .inr (.inl (s.2.1 (12 + 18 * g) k))
  | some (2, _) => .inr (.inr (s.2.2 (12 + 18 * g) k))
  | some (3, c) => .inr (.inr (some c))
  | _ => .inr (.inr none)
/-- is this place one of the fourteen sets' -/
def xbs (b : Nat) : Bool := (16 ≤ b && b < 30 && b % 2 == 0) || (34 ≤ b && b < 48 && b % 2 == 0)
def bfd (b : Nat) : List (Nat × Nat) := [(3, 301 + b), (0, 0), (0, 0)]
def bV (s : xS) (b : Nat) (k : Nat) : xV := match (bfd b)[k]? with
  | some (0, _) => .inl (s.1 b k)
  | some (1, _) => .inr (.inl (s.2.1 b k))
  | some (2, _) => .inr (.inr (s.2.2 b k))
  | some (3, c) => .inr (.inr (some c))
  | _ => .inr (.inr none)
section XX
variable {ms : xS} {r : xR}
theorem xcell_X0 : xcell xLL (ms, r) 300 = some (.inr (.inl (0, xV0 r.1))) := rfl
theorem xcell_Xt : xcell xLL (ms, r) 302 = some (.inl (1, 240, .inl (r.1.1 2))) := rfl
theorem xcell_Xu : xcell xLL (ms, r) 306 = some (.inl (4, 40, .inr (.inr (r.1.2.2 6)))) := rfl
theorem xcell_Xs : xcell xLL (ms, r) 311 = some (.inl (5, 2, .inr (.inr (fun j => some (312 + 18 * j))))) := rfl
theorem xcell_Xg : xcell xLL (ms, r) 348 = some (.inl (3, 6, .inr (.inr (fun j => some (349 + 1 * j))))) := rfl
theorem xlen_in {t : Nat} (h : 0 < xlen t) : t ∈ [3, 4, 5, 8, 9, 10, 13, 14, 31, 32, 49, 50, 51, 52, 53, 54, 55, 58, 59, 74, 75] := by
  unfold xlen at h
  split at h <;> first | decide | omega
theorem xcell_Xq {t : Nat} (h : 0 < xlen t) : xcell xLL (ms, r) (300 + t) = some (.inl (0, xlen t, .inl (r.1.1 t))) := by
  have h2 := xlen_in h
  simp only [List.mem_cons, List.not_mem_nil, or_false] at h2
  rcases h2 with rfl | rfl | rfl | rfl | rfl | rfl | rfl | rfl | rfl | rfl | rfl | rfl | rfl | rfl | rfl | rfl | rfl | rfl | rfl | rfl | rfl <;> rfl
theorem xcell_XG {g : Nat} (h : g < 2) : xcell xLL (ms, r) (312 + 18 * g) = some (.inr (.inl (3, gV r.1 g))) := by
  match g, h with
  | 0, _ => rfl
  | 1, _ => rfl
  | n + 2, h => omega
theorem xcell_XE {g : Nat} (h : g < 2) : xcell xLL (ms, r) (315 + 18 * g) = some (.inl (7, 7, .inr (.inr (fun j => some (300 + (16 + 18 * g + 2 * j)))))) := by
  match g, h with
  | 0, _ =>
    show some (Sum.inl (7, 7, Sum.inr (Sum.inr (fun j => some (312 + 4 + 2 * j))))) = _
    congr 6
    funext j
    congr 1
    omega
  | 1, _ =>
    show some (Sum.inl (7, 7, Sum.inr (Sum.inr (fun j => some (330 + 4 + 2 * j))))) = _
    congr 6
    funext j
    congr 1
    omega
  | n + 2, h => omega
theorem xbs_in {b : Nat} (h : xbs b = true) : b ∈ [16, 18, 20, 22, 24, 26, 28, 34, 36, 38, 40, 42, 44, 46] := by
  unfold xbs at h
  simp only [Bool.or_eq_true, Bool.and_eq_true, decide_eq_true_eq, beq_iff_eq] at h
  simp only [List.mem_cons, List.not_mem_nil, or_false]
  omega
theorem xcell_XB {b : Nat} (h : xbs b = true) : xcell xLL (ms, r) (300 + b) = some (.inr (.inl (8, bV r.1 b))) ∧ xcell xLL (ms, r) (301 + b) = some (.inl (2, 1, .inr (.inl (r.1.2.1 (b + 1))))) := by
  have h2 := xbs_in h
  simp only [List.mem_cons, List.not_mem_nil, or_false] at h2
  rcases h2 with rfl | rfl | rfl | rfl | rfl | rfl | rfl | rfl | rfl | rfl | rfl | rfl | rfl | rfl <;> exact ⟨rfl, rfl⟩
theorem xLX_lo {q : Nat} (h : q < 300) : xLX q = none := by
  unfold xLX
  split
  · omega
  · omega
  · omega
  · omega
  · omega
  · rw [if_neg (by omega), if_neg (by omega), if_neg (by omega)]
/-- a change of the system's store at one place shows in one cell -/
theorem xcell_Xw {s' : xS} {t : Nat} {e : xE} (ht : t < 80) (h1 : ∀ a, a ≠ t → s'.1 a = r.1.1 a) (h2 : ∀ a, a ≠ t → s'.2.1 a = r.1.2.1 a) (h3 : ∀ a, a ≠ t → s'.2.2 a = r.1.2.2 a) (he : xcell xLL (ms, (s', r.2)) (300 + t) = some e) :
    ∀ q, xcell xLL (ms, (s', r.2)) q = if q = 300 + t then some e else xcell xLL (ms, r) q := by
  intro q
  by_cases hq : q = 300 + t
  · rw [if_pos hq, hq, he]
  · rw [if_neg hq]
    unfold xcell
    cases hL : xLL q with
    | none => rfl
    | some d =>
      show some (if 380 ≤ q ∧ q < 405 then _ else _) = some (if 380 ≤ q ∧ q < 405 then _ else _)
      by_cases h : 380 ≤ q ∧ q < 405
      · rw [if_pos h, if_pos h]
      · rw [if_neg h, if_neg h]
        have hq3 : 300 ≤ q := by
          refine Nat.le_of_not_lt fun q3 => ?_
          unfold xLL at hL
          rw [if_pos (by omega), xLX_lo q3] at hL
          cases hL
        have e1 : q - 300 ≠ t := by omega
        rw [xsd_eq (h1 _ e1) (h2 _ e1) (h3 _ e1)]
end XX
/-! the words of the pure functions, on the system's store (r : xR) -/
section DSL
variable {ρ : Type}
def qrd (r : xR) (t : Nat) (i : Int32) (K : Int32 → Option ρ) : Option ρ := if xin i (xlen t) = true then K (r.1.1 t i.toNatClampNeg) else none
def qwr (r : xR) (t : Nat) (i v : Int32) (K : xR → Option ρ) : Option ρ := if xin i (xlen t) = true then K ((xu r.1.1 t i.toNatClampNeg v, r.1.2), r.2) else none
def qrb (r : xR) (i : Int32) (K : Int32 → Option ρ) : Option ρ := if xin i 240 = true then K (r.1.1 2 i.toNatClampNeg) else none
def qwb (r : xR) (i v : Int32) (K : xR → Option ρ) : Option ρ := if xin i 240 = true then K ((xu r.1.1 2 i.toNatClampNeg v.toInt8.toInt32, r.1.2), r.2) else none
def qpi (r : xR) (t k : Nat) (v : Int32) (K : xR → Option ρ) : Option ρ := K ((xu r.1.1 t k v, r.1.2), r.2)
def qpl (r : xR) (t k : Nat) (v : Int64) (K : xR → Option ρ) : Option ρ := K ((r.1.1, xuJ r.1.2.1 t k v, r.1.2.2), r.2)
def qpr (r : xR) (t k : Nat) (v : Option Nat) (K : xR → Option ρ) : Option ρ := K ((r.1.1, r.1.2.1, xuP r.1.2.2 t k v), r.2)
def ix (i : Int32) (n : Nat) (K : Nat → Option ρ) : Option ρ := if xin i n = true then K i.toNatClampNeg else none
def gok (g : Nat) (K : Option ρ) : Option ρ := if g < 2 then K else none
def bok (b : Nat) (K : Option ρ) : Option ρ := if xbs b = true then K else none
def nn (o : Option Nat) (K : Nat → Option ρ) : Option ρ := o.bind K
def nu (o : Option Nat) (A : Option ρ) (K : Nat → Option ρ) : Option ρ := match o with
  | none => A
  | some a => K a
def dgi (L : xL) (r : xR) (a ci k : Nat) (K : Int32 → Option ρ) : Option ρ := match xdl L r a with
  | some (.inr (.inl o)) => if o.1 = ci then (match o.2 k with
    | .inl x => K x
    | _ => none) else none
  | _ => none
def dgr (L : xL) (r : xR) (a ci k : Nat) (K : Option Nat → Option ρ) : Option ρ := match xdl L r a with
  | some (.inr (.inl o)) => if o.1 = ci then (match o.2 k with
    | .inr (.inr x) => K x
    | _ => none) else none
  | _ => none
def dpv (L : xL) (r : xR) (a ci k : Nat) (v : xV) (K : xR → Option ρ) : Option ρ := match xdl L r a with
  | some (.inr (.inl o)) => if o.1 = ci then K (xds r a (.inr (.inl (ci, fun j => if j = k then v else o.2 j)))) else none
  | _ => none
def dai (L : xL) (r : xR) (a : Nat) (i : Int32) (K : Int32 → Option ρ) : Option ρ := match xdl L r a with
  | some (.inl (0, n, .inl f)) => if xin i n = true then K (f i.toNatClampNeg) else none
  | _ => none
def daw (L : xL) (r : xR) (a : Nat) (i v : Int32) (K : xR → Option ρ) : Option ρ := match xdl L r a with
  | some (.inl (0, n, .inl f)) => if xin i n = true then K (xds r a (.inl (0, n, .inl (fun j => if j = i.toNatClampNeg then v else f j)))) else none
  | _ => none
def dar (L : xL) (r : xR) (a : Nat) (i : Int32) (K : Option Nat → Option ρ) : Option ρ := match xdl L r a with
  | some (.inl (t, n, .inr (.inr f))) => if 3 ≤ t ∧ t < 10 ∧ xin i n = true then K (f i.toNatClampNeg) else none
  | _ => none
def dln (L : xL) (r : xR) (a : Nat) (K : Int32 → Option ρ) : Option ρ := match xdl L r a with
  | some (.inl (t, n, _)) => if t < 10 then K n.toInt32 else none
  | _ => none
end DSL

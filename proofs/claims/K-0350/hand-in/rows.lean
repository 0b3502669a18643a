section
/-- one length n ≤ 12 on both sides; in each of the 64 cells the component keeps the last index (-1: none), the reference one more -/
def i_Rel (_ : Nat) (u : SX) (v : SY) : Prop :=
  ∃ (n : Nat) (a b : Nat → Int32), n ≤ 12 ∧ (∀ j : Nat, j < 64 → b j - 1 = a j) ∧ u = (nI n, a) ∧ v = (nI n, b)
theorem i_up {k : Nat} {u : SX} {v : SY} (h : i_Rel k u v) : i_Rel (k + 3) u v := h
theorem bc_and (y : Int32) : vp_in (y &&& 63) 64 := by
  have h : (y &&& 63).toBitVec.toNat < 64 := by
    rw [Int32.toBitVec_and, BitVec.toNat_and]
    exact Nat.lt_of_le_of_lt Nat.and_le_right (by decide)
  have e : (y &&& 63).toInt = (y &&& 63).toBitVec.toInt := rfl
  rw [vp_in_iff, e, BitVec.toInt_eq_toNat_of_lt (by omega)]
  omega
theorem bc_64 : nI 64 = 64 := by decide +kernel
theorem bc_12 : nI 12 = 12 := by decide +kernel
theorem bc_m1 : vp_nar .short (-1) = -1 := by rw [vp_nar_short]; decide
theorem bc_z : vp_nar .short 0 = 0 := by rw [vp_nar_short]; decide
/-- what a push stores: the index there, one more here; both below 2^15 -/
theorem bc_sh : ∀ n : Nat, n < 12 → vp_nar .short ((nI n + 1).toInt16.toInt32) - 1 = vp_nar .short (nI n).toInt16.toInt32 := by decide +kernel
/-- one more cell is filled -/
theorem bc_fill {a : Nat → Int32} {x y : Int32} {j : Nat} (hj : j < 64) (hy : y = x) (h : ∀ q : Nat, q < j → a q = x) : ∀ q : Nat, q < j + 1 → upd a (nI j).toNatClampNeg y q = x := by
  intro q hq
  rw [nI_clamp (n := j) (by omega)]
  unfold upd
  by_cases e : q = j
  · rw [if_pos e]; exact hy
  · rw [if_neg e]; exact h q (by omega)
theorem bc_le {j : Nat} (h : j = 64) : (64 : Int32) ≤ nI j := by rw [← bc_64, h]; exact nI_le (Nat.le_refl _) (by decide)
theorem bc_nle {j : Nat} (h : j < 64) : ¬ (64 : Int32) ≤ nI j := by rw [← bc_64]; exact nI_ge h (by decide)
/-- the constructor's loop fills all 64 cells with -1 -/
theorem bc_init (post : SX → Prop) (f : Int32) (hp : ∀ a : Nat → Int32, (∀ q : Nat, q < 64 → a q = -1) → post (0, a)) :
    ∀ (d j : Nat) (a : Nat → Int32), j + d = 64 → (∀ q : Nat, q < j → a q = -1) → wX_init_14 post f (d + 1) (nI j) a := by
  intro d
  induction d with
  | zero =>
    intro j a hj ha
    exact br_t (bc_le (by omega)) (hp a fun q hq => ha q (by omega))
  | succ d ih =>
    intro j a hj ha
    refine br_f (bc_nle (by omega)) ⟨vp_in_nI (by omega) (by decide), fun a' ea x ex => ?_⟩
    rw [ex, nI_1]
    exact ih (j + 1) a' (by omega) (by rw [ea]; exact bc_fill (by omega) bc_m1 ha)
/-- so does the component's reset -/
theorem bc_rX (post : Int32 → SX → Prop) (x f : Int32) (hp : ∀ a : Nat → Int32, (∀ q : Nat, q < 64 → a q = -1) → post x (0, a)) :
    ∀ (d j : Nat) (a : Nat → Int32), j + d = 64 → (∀ q : Nat, q < j → a q = -1) → wX_reset_7 post x f (d + 1) (nI j) a := by
  intro d
  induction d with
  | zero =>
    intro j a hj ha
    exact br_t (bc_le (by omega)) (hp a fun q hq => ha q (by omega))
  | succ d ih =>
    intro j a hj ha
    refine br_f (bc_nle (by omega)) ⟨vp_in_nI (by omega) (by decide), fun a' ea x ex => ?_⟩
    rw [ex, nI_1]
    exact ih (j + 1) a' (by omega) (by rw [ea]; exact bc_fill (by omega) bc_m1 ha)
/-- the reference's reset fills them with 0 -/
theorem bc_rY (post : Int32 → SY → Prop) (x f : Int32) (hp : ∀ a : Nat → Int32, (∀ q : Nat, q < 64 → a q = 0) → post x (0, a)) :
    ∀ (d j : Nat) (a : Nat → Int32), j + d = 64 → (∀ q : Nat, q < j → a q = 0) → wY_reset_7 post x f (d + 1) (nI j) a := by
  intro d
  induction d with
  | zero =>
    intro j a hj ha
    exact br_t (bc_le (by omega)) (hp a fun q hq => ha q (by omega))
  | succ d ih =>
    intro j a hj ha
    refine br_f (bc_nle (by omega)) ⟨vp_in_nI (by omega) (by decide), fun a' ea x ex => ?_⟩
    rw [ex, nI_1]
    exact ih (j + 1) a' (by omega) (by rw [ea]; exact bc_fill (by omega) bc_z ha)
/-- two cleared tables are related -/
theorem bc_clear (k : Nat) {a b : Nat → Int32} (ha : ∀ q : Nat, q < 64 → a q = -1) (hb : ∀ q : Nat, q < 64 → b q = 0) : i_Rel k (0, a) (0, b) :=
  ⟨0, a, b, by decide, fun j hj => by rw [ha j hj, hb j hj]; decide, by rw [nI_0], by rw [nI_0]⟩
theorem bc_vac {a : Nat → Int32} {x : Int32} : ∀ q : Nat, q < 0 → a q = x := fun q hq => absurd hq (Nat.not_lt_zero q)
theorem bc_init0 (post : SX → Prop) (f : Int32) (a : Nat → Int32) (hp : ∀ a' : Nat → Int32, (∀ q : Nat, q < 64 → a' q = -1) → post (0, a')) : wX_init_14 post f 65 0 a := by
  have h := bc_init post f hp 64 0 a rfl bc_vac
  rw [nI_0] at h
  exact h
theorem bc_rX0 (post : Int32 → SX → Prop) (x f : Int32) (a : Nat → Int32) (hp : ∀ a' : Nat → Int32, (∀ q : Nat, q < 64 → a' q = -1) → post x (0, a')) : wX_reset_7 post x f 65 0 a := by
  have h := bc_rX post x f hp 64 0 a rfl bc_vac
  rw [nI_0] at h
  exact h
theorem bc_rY0 (post : Int32 → SY → Prop) (x f : Int32) (a : Nat → Int32) (hp : ∀ a' : Nat → Int32, (∀ q : Nat, q < 64 → a' q = 0) → post x (0, a')) : wY_reset_7 post x f 65 0 a := by
  have h := bc_rY post x f hp 64 0 a rfl bc_vac
  rw [nI_0] at h
  exact h
theorem i_vc0 : wpX_init (fun u => wpY_init (fun v => i_Rel 0 u v)) := by
  unfold wpX_init wpY_init
  exact ⟨65, bc_init0 _ 0 (fun _ => 0) fun a ha => bc_clear 0 ha fun _ _ => rfl⟩
theorem i_vc_push {k : Nat} {u : SX} {v : SY} (I : i_Rel k u v) (hk : k + 3 ≤ 1536) (v1 : Int32) : wpX_push (fun r u' => wpY_push (fun r' v' => r' = r ∧ i_Rel (k + 3) u' v') v v1) u v1 := by
  obtain ⟨n, a, b, hn, hab, rfl, rfl⟩ := I
  by_cases h : n < 12
  · have hl : nI n < 12 := by rw [← bc_12]; exact nI_lt h (by decide)
    obtain ⟨q, hq, eq⟩ := vp_in_of (bc_and v1) (by decide)
    have hx : vp_in (nI q) 64 := vp_in_nI hq (by decide)
    have hc : (nI q).toNatClampNeg < 64 := by rw [nI_clamp (n := q) (by omega)]; exact hq
    refine br_t hl (nm_r eq ⟨hx, nm_e ⟨hx, nm_e (nm_r (nI_1 n) ?_)⟩⟩)
    refine br_t hl (nm_r eq ⟨hx, nm_e (nm_r (nI_1 n) ⟨hx, nm_e ⟨hab _ hc, ?_⟩⟩)⟩)
    refine ⟨n + 1, _, _, h, ?_, rfl, rfl⟩
    intro j hj
    unfold upd
    by_cases e : j = (nI q).toNatClampNeg
    · rw [if_pos e, if_pos e]; exact bc_sh n h
    · rw [if_neg e, if_neg e]; exact hab j hj
  · have hl : ¬ nI n < 12 := by rw [← bc_12]; exact nI_nlt (by omega) (by omega)
    exact br_f hl (br_f hl ⟨rfl, n, a, b, hn, hab, rfl, rfl⟩)
theorem i_vc_shift {k : Nat} {u : SX} {v : SY} (I : i_Rel k u v) (hk : k + 3 ≤ 1536) (v1 : Int32) (v2 : Int32) : wpX_shift (fun r => wpY_shift (fun r' => r' = r ∧ i_Rel (k + 3) u v) v v1 v2) u v1 v2 := by
  have I' : i_Rel (k + 3) u v := I
  obtain ⟨n, a, b, hn, hab, rfl, rfl⟩ := I
  by_cases h0 : v2 < 0
  · exact br_t h0 (br_t h0 ⟨rfl, I'⟩)
  · by_cases hl : v2 < nI n
    · have hx := bc_and v1
      have hc : (v1 &&& 63).toNatClampNeg < 64 := by
        obtain ⟨q, hq, eq⟩ := vp_in_of hx (by decide)
        rw [eq, nI_clamp (n := q) (by omega)]; exact hq
      have hd : v2 - (b (v1 &&& 63).toNatClampNeg - 1) = v2 - a (v1 &&& 63).toNatClampNeg := by rw [hab _ hc]
      refine br_f h0 (br_t hl ⟨hx, nm_e (br_c (fun h1 => ?_) (fun h1 => ?_))⟩)
      · exact br_f h0 (br_t hl ⟨hx, nm_r hd (br_t h1 ⟨rfl, I'⟩)⟩)
      · exact br_f h0 (br_t hl ⟨hx, nm_r hd (br_f h1 ⟨rfl, I'⟩)⟩)
    · exact br_f h0 (br_f hl (br_f h0 (br_f hl ⟨rfl, I'⟩)))
theorem i_vc_reset {k : Nat} {u : SX} {v : SY} (I : i_Rel k u v) (hk : k + 3 ≤ 1536) : wpX_reset (fun r u' => wpY_reset (fun r' v' => r' = r ∧ i_Rel (k + 3) u' v') v) u := by
  obtain ⟨n, a, b, hn, hab, rfl, rfl⟩ := I
  unfold wpX_reset
  refine ⟨65, bc_rX0 _ (nI n) (nI n) a fun a' ha' => ?_⟩
  unfold wpY_reset
  exact ⟨65, bc_rY0 _ (nI n) (nI n) b fun b' hb' => ⟨rfl, bc_clear (k + 3) ha' hb'⟩⟩
theorem i_vc_length {k : Nat} {u : SX} {v : SY} (I : i_Rel k u v) (hk : k + 3 ≤ 1536) : wpX_length (fun r => wpY_length (fun r' => r' = r ∧ i_Rel (k + 3) u v) v) u := by
  have I' : i_Rel (k + 3) u v := I
  obtain ⟨n, a, b, hn, hab, rfl, rfl⟩ := I
  exact ⟨rfl, I'⟩
end

section
/-! ### numbers below ten, stores, what narrowing keeps -/
theorem ag_10 : nI 10 = 10 := by decide +kernel
theorem ag_ge {i : Nat} (h : 10 ≤ i) (h2 : i < 2 ^ 31) : (10 : Int32) ≤ nI i := by
  rw [← ag_10]; exact nI_le h h2
theorem ag_nge {i : Nat} (h : i < 10) : ¬ (10 : Int32) ≤ nI i := by
  rw [← ag_10]; exact nI_ge h (by decide)
theorem ag_cl {i : Nat} (h : i < 10) : (nI i).toNatClampNeg = i := nI_clamp (by omega)
theorem ag_in {i : Nat} (h : i < 10) : vp_in (nI i) 10 := vp_in_nI h (by decide)
theorem ag_nb {q : Nat} (h : q < 10) : vp_nar .byte (nI q) = nI q := by
  have t : ∀ i : Fin 10, (nI i.val).toInt8.toInt32 = nI i.val := by decide +kernel
  rw [vp_nar_byte]; exact t ⟨q, h⟩
theorem ag_nbb {q : Nat} (h : q < 10) : vp_nar .byte (nI q).toInt8.toInt32 = nI q := by
  have t : ∀ i : Fin 10, (nI i.val).toInt8.toInt32 = nI i.val := by decide +kernel
  rw [t ⟨q, h⟩]; exact ag_nb h
theorem ag_ns {q : Nat} (h : q < 10) : vp_nar .short (nI q) = nI q := by
  have t : ∀ i : Fin 10, (nI i.val).toInt16.toInt32 = nI i.val := by decide +kernel
  rw [vp_nar_short]; exact t ⟨q, h⟩
theorem ag_nss {q : Nat} (h : q < 10) : vp_nar .short (nI q).toInt16.toInt32 = nI q := by
  have t : ∀ i : Fin 10, (nI i.val).toInt16.toInt32 = nI i.val := by decide +kernel
  rw [t ⟨q, h⟩]; exact ag_ns h
/-- the mark that X leaves in a cell of its order -/
def ag_ng (q : Nat) : Int32 := vp_nar .byte (((nI q) ^^^ (-1)).toInt8.toInt32)
theorem ag_ngn {q : Nat} (h : q < 10) : ag_ng q < 0 := by
  have t : ∀ i : Fin 10, (((nI i.val) ^^^ (-1)).toInt8.toInt32).toInt8.toInt32 < 0 := by decide +kernel
  unfold ag_ng; rw [vp_nar_byte]; exact t ⟨q, h⟩
theorem ag_nc0 : vp_nar .char 0 = 0 := by rw [vp_nar_char]; decide +kernel
theorem ag_nc1 : vp_nar .char ((((0 : Int32) + 1).toUInt32 % 65536).toInt32) = 1 := by rw [vp_nar_char]; decide +kernel
theorem ag_us {f : Nat → Int32} {k : Nat} {x : Int32} : upd f k x k = x := if_pos rfl
theorem ag_un {f : Nat → Int32} {k j : Nat} {x : Int32} (h : j ≠ k) : upd f k x j = f j := if_neg h
theorem ag_uu {f : Nat → Int32} {k : Nat} {x y : Int32} : upd (upd f k x) k y = upd f k y := by
  funext j; unfold upd; by_cases h : j = k <;> simp [h]
theorem ag_ue {f : Nat → Int32} {k : Nat} {x : Int32} (h : x = f k) : upd f k x = f := by
  funext j; unfold upd; by_cases e : j = k
  · simp [e, h]
  · simp [e]
/-- the first m cells hold their own numbers -/
def ag_id (m : Nat) (o : Nat → Int32) : Nat → Int32 := fun j => if j < m then nI j else o j
theorem ag_id0 (o : Nat → Int32) : ag_id 0 o = o := by funext j; exact if_neg (Nat.not_lt_zero j)
theorem ag_ids (m : Nat) (o : Nat → Int32) : upd (ag_id m o) m (nI m) = ag_id (m + 1) o := by
  funext j; unfold upd ag_id
  by_cases h : j = m
  · subst h; rw [if_pos rfl, if_pos (by omega)]
  · rw [if_neg h]
    by_cases g : j < m
    · rw [if_pos g, if_pos (by omega)]
    · rw [if_neg g, if_neg (by omega)]
/-- the cells of the order hold numbers below ten, no two alike -/
def ag_P (A : Nat → Int32) : Prop := (∀ i, i < 10 → ∃ q, q < 10 ∧ A i = nI q) ∧ ∀ i j, i < 10 → j < 10 → A i = A j → i = j
theorem ag_Pid (o : Nat → Int32) : ag_P (ag_id 10 o) := by
  have e : ∀ i, i < 10 → ag_id 10 o i = nI i := fun i hi => if_pos hi
  refine ⟨fun i hi => ⟨i, hi, e i hi⟩, fun i j hi hj h => ?_⟩
  rw [e i hi, e j hj] at h
  exact (nI_eq (by omega) (by omega)).mp h
/-- the relation: the same keys, the same order, and the order is one of ten numbers -/
def i_Rel (_ : Nat) (u : SX) (v : SY) : Prop := ∃ (K : Nat → Int64) (o : Nat → Int32) (b : Nat → Int64) (d : Nat → Int32), u = (K, o) ∧ v = (K, o, b, d) ∧ ag_P o
theorem i_up {k : Nat} {u : SX} {v : SY} (h : i_Rel k u v) : i_Rel (k + 4) u v := h
end
section
/-! ### the constructors and the methods without loops -/
theorem ag_init (post : SX → Prop) : ∀ t i, i + t = 10 → post ((fun _ => 0), ag_id 10 (fun _ => 0)) → wX_init_22 post (t + 1) (nI i) (fun _ => 0) (ag_id i (fun _ => 0)) := by
  intro t
  induction t with
  | zero =>
    intro i hi hp
    have e : i = 10 := by omega
    subst e
    exact br_t (ag_ge (by omega) (by decide)) hp
  | succ t ih =>
    intro i hi hp
    have h : i < 10 := by omega
    have eK : vp_updL (fun _ => 0) (nI i).toNatClampNeg 0 = (fun _ => 0) := by
      funext j; unfold vp_updL; by_cases g : j = (nI i).toNatClampNeg <;> simp [g]
    have eo : upd (ag_id i (fun _ => 0)) (nI i).toNatClampNeg (vp_nar .byte (nI i).toInt8.toInt32) = ag_id (i + 1) (fun _ => 0) := by
      rw [ag_cl h, ag_nbb h, ag_ids]
    exact br_f (ag_nge h) ⟨ag_in h, nm_r eK ⟨ag_in h, nm_r eo (nm_r (nI_1 i) (ih (i + 1) (by omega) hp))⟩⟩
theorem ag_yi (m : Nat) (h : m < 10) (o : Nat → Int32) {x : Int32} (hx : x = nI m) : upd (ag_id m o) m (vp_nar .short x) = ag_id (m + 1) o := by
  rw [hx, ag_ns h, ag_ids]
theorem ag_yinit (post : SY → Prop) (hp : post ((fun _ => 0), ag_id 10 (fun _ => 0), (fun _ => 0), (fun _ => 0))) : wpY_init post := by
  unfold wpY_init
  have e0 : upd (fun _ => 0) 0 (vp_nar .short 0) = ag_id 1 (fun _ => 0) := by
    have := ag_yi 0 (by decide) (fun _ => 0) (x := 0) (by decide +kernel)
    rw [ag_id0] at this; exact this
  exact nm_r e0 (nm_r (ag_yi 1 (by decide) _ (by decide +kernel)) (nm_r (ag_yi 2 (by decide) _ (by decide +kernel)) (nm_r (ag_yi 3 (by decide) _ (by decide +kernel)) (nm_r (ag_yi 4 (by decide) _ (by decide +kernel)) (nm_r (ag_yi 5 (by decide) _ (by decide +kernel)) (nm_r (ag_yi 6 (by decide) _ (by decide +kernel)) (nm_r (ag_yi 7 (by decide) _ (by decide +kernel)) (nm_r (ag_yi 8 (by decide) _ (by decide +kernel)) (nm_r (ag_yi 9 (by decide) _ (by decide +kernel)) hp)))))))))
theorem i_vc0 : wpX_init (fun u => wpY_init (fun v => i_Rel 0 u v)) := by
  have h := ag_init (fun u => wpY_init (fun v => i_Rel 0 u v)) 10 0 rfl (ag_yinit _ ⟨_, _, _, _, rfl, rfl, ag_Pid _⟩)
  rw [ag_id0, nI_0] at h
  exact ⟨_, h⟩
theorem ag_9 {x : Int32} (h0 : ¬ x < 0) (h9 : x ≤ 9) : vp_in x 10 := by
  obtain ⟨j, hj, rfl⟩ := nI_of2 (M := 9) (n := 9) (by decide) h0 h9
  exact ag_in (by omega)
theorem i_vc_put {k : Nat} {u : SX} {v : SY} (I : i_Rel k u v) (hk : k + 4 ≤ 2048) (v1 : Int32) (a1 : Int64) : wpX_put (fun r u' => wpY_put (fun r' v' => r' = r ∧ i_Rel (k + 4) u' v') v v1 a1) u v1 a1 := by
  obtain ⟨K, o, b, d, rfl, rfl, hP⟩ := I
  by_cases h0 : v1 < 0
  · exact br_t h0 (br_t h0 ⟨rfl, _, _, _, _, rfl, rfl, hP⟩)
  · by_cases h9 : v1 ≤ 9
    · exact br_f h0 (br_t h9 ⟨ag_9 h0 h9, nm_e (br_f h0 (br_t h9 ⟨ag_9 h0 h9, nm_e ⟨rfl, _, _, _, _, rfl, rfl, hP⟩⟩))⟩)
    · exact br_f h0 (br_f h9 (br_f h0 (br_f h9 ⟨rfl, _, _, _, _, rfl, rfl, hP⟩)))
theorem i_vc_rankOf {k : Nat} {u : SX} {v : SY} (I : i_Rel k u v) (hk : k + 4 ≤ 2048) (v1 : Int32) : wpX_rankOf (fun r => wpY_rankOf (fun r' => r' = r ∧ i_Rel (k + 4) u v) v v1) u v1 := by
  have I' := I
  obtain ⟨K, o, b, d, rfl, rfl, hP⟩ := I
  by_cases h0 : v1 < 0
  · exact br_t h0 (br_t h0 ⟨rfl, I'⟩)
  · by_cases h9 : v1 ≤ 9
    · exact br_f h0 (br_t h9 ⟨ag_9 h0 h9, br_f h0 (br_t h9 ⟨ag_9 h0 h9, rfl, I'⟩)⟩)
    · exact br_f h0 (br_f h9 (br_f h0 (br_f h9 ⟨rfl, I'⟩)))
theorem i_vc_key {k : Nat} {u : SX} {v : SY} (I : i_Rel k u v) (hk : k + 4 ≤ 2048) (v1 : Int32) : wpX_key (fun r => wpY_key (fun r' => r' = r ∧ i_Rel (k + 4) u v) v v1) u v1 := by
  have I' := I
  obtain ⟨K, o, b, d, rfl, rfl, hP⟩ := I
  by_cases h0 : v1 < 0
  · exact br_t h0 (br_t h0 ⟨rfl, I'⟩)
  · by_cases h9 : v1 ≤ 9
    · exact br_f h0 (br_t h9 ⟨ag_9 h0 h9, br_f h0 (br_t h9 ⟨ag_9 h0 h9, rfl, I'⟩)⟩)
    · exact br_f h0 (br_f h9 (br_f h0 (br_f h9 ⟨rfl, I'⟩)))
end
section
/-! ### sortIndex: X's insertion and Y's walk to and fro, one outcome for both -/
/-- the key at a place of the order -/
def ag_k (K : Nat → Int64) (A : Nat → Int32) (i : Nat) : Int64 := K (A i).toNatClampNeg
/-- the first m places are in order -/
def ag_So (K : Nat → Int64) (A : Nat → Int32) (m : Nat) : Prop := ∀ a b, a < b → b < m → ag_k K A a ≤ ag_k K A b
/-- the places up to i are in order but for place h, and those above h hold no smaller key than it -/
def ag_Ho (K : Nat → Int64) (A : Nat → Int32) (i h : Nat) : Prop := (∀ a b, a < b → b ≤ i → a ≠ h → b ≠ h → ag_k K A a ≤ ag_k K A b) ∧ ∀ b, h < b → b ≤ i → ag_k K A h ≤ ag_k K A b
/-- places h + 1 and h change their contents -/
def ag_sw (A : Nat → Int32) (h : Nat) : Nat → Int32 := upd (upd A (h + 1) (A h)) h (A (h + 1))
theorem ag_sw0 (A : Nat → Int32) (h : Nat) : ag_sw A h h = A (h + 1) := ag_us
theorem ag_sw1 (A : Nat → Int32) (h : Nat) : ag_sw A h (h + 1) = A h := (ag_un (by omega)).trans ag_us
theorem ag_swn (A : Nat → Int32) {h j : Nat} (h0 : j ≠ h) (h1 : j ≠ h + 1) : ag_sw A h j = A j := (ag_un h0).trans (ag_un h1)
theorem ag_swP {A : Nat → Int32} {h : Nat} (hh : h + 1 < 10) (hP : ag_P A) : ag_P (ag_sw A h) := by
  have hs : ∀ i, i < 10 → ∃ j, j < 10 ∧ ag_sw A h i = A j ∧ (i = h → j = h + 1) ∧ (i = h + 1 → j = h) ∧ (i ≠ h → i ≠ h + 1 → j = i) := by
    intro i hi
    by_cases e0 : i = h
    · subst e0; exact ⟨i + 1, hh, ag_sw0 A i, by omega, by omega, by omega⟩
    · by_cases e1 : i = h + 1
      · subst e1; exact ⟨h, by omega, ag_sw1 A h, by omega, by omega, by omega⟩
      · exact ⟨i, hi, ag_swn A e0 e1, by omega, by omega, by omega⟩
  constructor
  · intro i hi
    obtain ⟨j, hj, e, _⟩ := hs i hi
    rw [e]; exact hP.1 j hj
  · intro i i' hi hi' e
    obtain ⟨j, hj, ej, c0, c1, c2⟩ := hs i hi
    obtain ⟨j', hj', ej', d0, d1, d2⟩ := hs i' hi'
    rw [ej, ej'] at e
    have := hP.2 j j' hj hj' e
    omega
theorem ag_swH {K : Nat → Int64} {A : Nat → Int32} {i h : Nat} (hi : h + 1 ≤ i) (H : ag_Ho K A i (h + 1)) (g : ¬ ag_k K A h ≤ ag_k K A (h + 1)) : ag_Ho K (ag_sw A h) i h := by
  have k0 : ag_k K (ag_sw A h) h = ag_k K A (h + 1) := by unfold ag_k; rw [ag_sw0]
  have k1 : ag_k K (ag_sw A h) (h + 1) = ag_k K A h := by unfold ag_k; rw [ag_sw1]
  have kn : ∀ j, j ≠ h → j ≠ h + 1 → ag_k K (ag_sw A h) j = ag_k K A j := by
    intro j j0 j1; unfold ag_k; rw [ag_swn A j0 j1]
  constructor
  · intro a b hab hb na nb
    by_cases ea : a = h + 1
    · subst ea; rw [k1, kn b nb (by omega)]; exact H.1 h b (by omega) hb (by omega) (by omega)
    · by_cases eb : b = h + 1
      · subst eb; rw [k1, kn a na ea]; exact H.1 a h (by omega) (by omega) ea (by omega)
      · rw [kn a na ea, kn b nb eb]; exact H.1 a b hab hb ea eb
  · intro b hb hbi
    rw [k0]
    by_cases eb : b = h + 1
    · subst eb; rw [k1]; exact Int64.le_of_lt (Int64.not_le.mp g)
    · rw [kn b (by omega) eb]; exact H.2 b (by omega) hbi
theorem ag_Hend {K : Nat → Int64} {A : Nat → Int32} {i h : Nat} (H : ag_Ho K A i h) (g : ∀ j, j + 1 = h → ag_k K A j ≤ ag_k K A h) : ag_So K A (i + 1) := by
  intro a b hab hb
  by_cases ea : a = h
  · subst ea; exact H.2 b hab (by omega)
  · by_cases eb : b = h
    · subst eb
      obtain ⟨j, rfl⟩ : ∃ j, b = j + 1 := ⟨b - 1, by omega⟩
      by_cases e : a = j
      · subst e; exact g a rfl
      · exact Int64.le_trans (H.1 a j (by omega) (by omega) ea (by omega)) (g j rfl)
    · exact H.1 a b hab (by omega) ea eb
theorem ag_Hbeg {K : Nat → Int64} {A : Nat → Int32} {i : Nat} (S : ag_So K A i) : ag_Ho K A i i :=
  ⟨fun a b hab hb _ nb => S a b hab (by omega), fun b h1 h2 => absurd h1 (by omega)⟩
/-- an entry of the order as an index -/
theorem ag_Pin {A : Nat → Int32} {i : Nat} (hP : ag_P A) (hi : i < 10) : vp_in (A i) 10 := by
  obtain ⟨q, hq, e⟩ := hP.1 i hi
  rw [e]; exact ag_in hq
theorem ag_Pnb {A : Nat → Int32} {i : Nat} (hP : ag_P A) (hi : i < 10) : vp_nar .byte (A i) = A i := by
  obtain ⟨q, hq, e⟩ := hP.1 i hi
  rw [e]; exact ag_nb hq
theorem ag_Pns {A : Nat → Int32} {i : Nat} (hP : ag_P A) (hi : i < 10) : vp_nar .short (A i) = A i := by
  obtain ⟨q, hq, e⟩ := hP.1 i hi
  rw [e]; exact ag_ns hq
/-- Y's step where the two places are in order -/
theorem ag_yup {K : Nat → Int64} {A : Nat → Int32} {b : Nat → Int64} {d : Nat → Int32} (post : Int32 → SY → Prop) {c : Int32} {m : Nat} (hm : m + 1 < 10) (hP : ag_P A) (g : ag_k K A m ≤ ag_k K A (m + 1)) (hY : ∃ n, wY_sortIndex_4 post n c (nI (m + 2)) K A b d) : ∃ n, wY_sortIndex_4 post n c (nI (m + 1)) K A b d := by
  obtain ⟨n, hn⟩ := hY
  refine ⟨n + 1, br_f (ag_nge hm) (br_f (nI_ne0 (by omega) (by omega)) ?_)⟩
  rw [nI_pred m, ag_cl hm, ag_cl (show m < 10 by omega)]
  exact ⟨ag_in (by omega), ag_Pin hP (by omega), ag_in hm, ag_Pin hP hm, br_f (Int64.not_lt.mpr g) (nm_r (nI_1 (m + 1)) hn)⟩
/-- Y's step where the two places change -/
theorem ag_ydn {K : Nat → Int64} {A : Nat → Int32} {b : Nat → Int64} {d : Nat → Int32} (post : Int32 → SY → Prop) {c : Int32} {m : Nat} (hm : m + 1 < 10) (hP : ag_P A) (g : ¬ ag_k K A m ≤ ag_k K A (m + 1)) (hY : ∃ n, wY_sortIndex_4 post n (c + 1) (nI m) K (ag_sw A m) b d) : ∃ n, wY_sortIndex_4 post n c (nI (m + 1)) K A b d := by
  obtain ⟨n, hn⟩ := hY
  have em : nI (m + 1) + (-1) = nI m := (Int32.sub_eq_add_neg (nI (m + 1)) 1).symm.trans (nI_pred m)
  have hm' : m < 10 := by omega
  refine ⟨n + 1, br_f (ag_nge hm) (br_f (nI_ne0 (by omega) (by omega)) ?_)⟩
  rw [nI_pred m, ag_cl hm, ag_cl hm']
  refine ⟨ag_in hm', ag_Pin hP hm', ag_in hm, ag_Pin hP hm, br_t (Int64.not_le.mp g) ⟨ag_in hm, nm_e ⟨ag_in hm', ag_in hm, nm_r (e' := upd A (m + 1) (A m)) ?_ (nm_r em ⟨ag_in hm', nm_r (e' := ag_sw A m) ?_ (nm_e hn)⟩)⟩⟩⟩
  · rw [ag_Pns hP hm']
  · rw [ag_Pns hP hm, ag_cl hm']; rfl
/-- Y climbs the places that are in order -/
theorem ag_climb {K : Nat → Int64} {A : Nat → Int32} {b : Nat → Int64} {d : Nat → Int32} (post : Int32 → SY → Prop) {c : Int32} {i : Nat} (hi : i < 10) (hP : ag_P A) (S : ag_So K A (i + 1)) (hY : ∃ n, wY_sortIndex_4 post n c (nI (i + 1)) K A b d) : ∀ t m, m + t = i → ∃ n, wY_sortIndex_4 post n c (nI (m + 1)) K A b d := by
  intro t
  induction t with
  | zero => intro m hm; have e : m = i := by omega
            subst e; exact hY
  | succ t ih =>
    intro m hm
    exact ag_yup post (by omega) hP (S m (m + 1) (by omega) (by omega)) (ih (m + 1) (by omega))
/-- X's end of an insertion -/
theorem ag_x78 {K : Nat → Int64} {A : Nat → Int32} (post : Int32 → SX → Prop) (J : Int32 → Int32 → (Nat → Int64) → (Nat → Int32) → Prop) {c x : Int32} {i h : Nat} (hh : h < 10) (hP : ag_P A) (hJ : J c (nI (i + 1)) K A) : wX_sortIndex_78 post J c (nI i) (A h) (nI h - 1) K (upd A h x) := by
  unfold wX_sortIndex_78
  rw [Int32.sub_add_cancel, ag_cl hh, ag_Pnb hP hh, ag_uu, ag_ue rfl]
  exact ⟨ag_in hh, nm_e (nm_r (nI_1 i) hJ)⟩
/-- one insertion, from the hole at h on: an outcome for both sides -/
theorem ag_ins (K : Nat → Int64) (b : Nat → Int64) (d : Nat → Int32) {i : Nat} (hi : i < 10) : ∀ h, h ≤ i → ∀ (A : Nat → Int32) (c x p : Int32) (k : Int64), ag_P A → ag_Ho K A i h → A h = p → ag_k K A h = k → ∃ (A' : Nat → Int32) (c' : Int32), ag_P A' ∧ ag_So K A' (i + 1) ∧ (∀ (post : Int32 → SX → Prop) (J : Int32 → Int32 → (Nat → Int64) → (Nat → Int32) → Prop), J c' (nI (i + 1)) K A' → ∃ n, wX_sortIndex_30 post J (nI i) p k n c (nI h - 1) K (upd A h x)) ∧ (∀ post : Int32 → SY → Prop, (∃ n, wY_sortIndex_4 post n c' (nI (i + 1)) K A' b d) → ∃ n, wY_sortIndex_4 post n c (nI h) K A b d) := by
  intro h
  induction h with
  | zero =>
    intro _ A c x p k hP H ep ek
    have S : ag_So K A (i + 1) := ag_Hend H (fun j hj => absurd hj (by omega))
    refine ⟨A, c, hP, S, fun post J hJ => ⟨1, br_t (by rw [nI_0]; decide) ?_⟩, fun post hY => ?_⟩
    · rw [← ep]; exact ag_x78 post J (by decide) hP hJ
    · obtain ⟨n, hn⟩ := ag_climb post hi hP S hY i 0 (by omega)
      exact ⟨n + 1, br_f (ag_nge (by decide)) (br_t nI_0 (nm_r (nI_1 0) hn))⟩
  | succ h ih =>
    intro hhi A c x p k hP H ep ek
    have h1 : h + 1 < 10 := by omega
    have h0 : h < 10 := by omega
    have ex : upd A (h + 1) x h = A h := ag_un (by omega)
    by_cases g : ag_k K A h ≤ ag_k K A (h + 1)
    · have S : ag_So K A (i + 1) := ag_Hend H (fun j hj => by have e : j = h := by omega
                                                              subst e; exact g)
      refine ⟨A, c, hP, S, fun post J hJ => ⟨1, ?_⟩, fun post hY => ?_⟩
      · have e78 := ag_x78 (x := x) post J h1 hP hJ
        rw [ep, nI_pred h] at e78
        rw [nI_pred h]
        refine br_f (nI_pos (by omega)) ?_
        rw [ag_cl h0, ex]
        exact ⟨ag_in h0, ag_Pin hP h0, br_t (by rw [← ek]; exact g) e78⟩
      · obtain ⟨n, hn⟩ := ag_climb post hi hP S hY (i - (h + 1)) (h + 1) (by omega)
        exact ag_yup post h1 hP g ⟨n, hn⟩
    · obtain ⟨A', c', hP', S', hX, hY⟩ := ih (by omega) (ag_sw A h) (c + 1) (A h) p k (ag_swP h1 hP) (ag_swH hhi H g) ((ag_sw0 A h).trans ep) ((by unfold ag_k; rw [ag_sw0] : ag_k K (ag_sw A h) h = ag_k K A (h + 1)).trans ek)
      refine ⟨A', c', hP', S', fun post J hJ => ?_, fun post hp => ag_ydn post h1 hP g (hY post hp)⟩
      obtain ⟨n, hn⟩ := hX post J hJ
      have es : upd (ag_sw A h) h (A h) = upd A (h + 1) (A h) := by
        unfold ag_sw; rw [ag_uu]; exact ag_ue (ag_un (by omega)).symm
      rw [es] at hn
      refine ⟨n + 1, ?_⟩
      rw [nI_pred h]
      refine br_f (nI_pos (by omega)) ?_
      rw [ag_cl h0, ex, nI_1 h, ag_cl h1, ag_Pnb hP h0, ag_uu]
      exact ⟨ag_in h0, ag_Pin hP h0, br_f (by rw [← ek]; exact g) ⟨ag_in h0, ag_in h1, nm_e (nm_r (Int32.sub_eq_add_neg (nI h) 1).symm (nm_e hn))⟩⟩
/-- the whole sort: one outcome for both sides -/
theorem ag_sort (K : Nat → Int64) (b : Nat → Int64) (d : Nat → Int32) : ∀ t i, i + t = 10 → ∀ (A : Nat → Int32) (c : Int32), ag_P A → ag_So K A i → ∃ (A' : Nat → Int32) (c' : Int32), ag_P A' ∧ (∀ post : Int32 → SX → Prop, post c' (K, A') → ∃ n, wX_sortIndex_4 post n c (nI i) K A) ∧ (∀ post : Int32 → SY → Prop, post c' (K, A', b, d) → ∃ n, wY_sortIndex_4 post n c (nI i) K A b d) := by
  intro t
  induction t with
  | zero =>
    intro i hi A c hP S
    have g : (10 : Int32) ≤ nI i := ag_ge (by omega) (by omega)
    exact ⟨A, c, hP, fun post hp => ⟨1, br_t g hp⟩, fun post hp => ⟨1, br_t g hp⟩⟩
  | succ t ih =>
    intro i hi A c hP S
    have h : i < 10 := by omega
    obtain ⟨A1, c1, hP1, S1, hX1, hY1⟩ := ag_ins K b d h i (Nat.le_refl i) A c (A i) (A i) (ag_k K A i) hP (ag_Hbeg S) rfl rfl
    obtain ⟨A', c', hP', hX, hY⟩ := ih (i + 1) (by omega) A1 c1 hP1 S1
    refine ⟨A', c', hP', fun post hp => ?_, fun post hp => hY1 post (hY post hp)⟩
    obtain ⟨n, hn⟩ := hX post hp
    have h1 := hX1 post (wX_sortIndex_4 post n) hn
    rw [ag_ue (f := A) (k := i) rfl] at h1
    refine ⟨n + 1, br_f (ag_nge h) ?_⟩
    rw [ag_cl h]
    exact ⟨ag_in h, nm_e ⟨ag_Pin hP h, nm_e (nm_e h1)⟩⟩
theorem i_vc_sortIndex {k : Nat} {u : SX} {v : SY} (I : i_Rel k u v) (hk : k + 4 ≤ 2048) : wpX_sortIndex (fun r u' => wpY_sortIndex (fun r' v' => r' = r ∧ i_Rel (k + 4) u' v') v) u := by
  obtain ⟨K, o, b, d, rfl, rfl, hP⟩ := I
  obtain ⟨A', c', hP', hX, hY⟩ := ag_sort K b d 9 1 rfl o 0 hP (fun a b h1 h2 => absurd h1 (by omega))
  exact hX _ (hY _ ⟨rfl, _, _, _, _, rfl, rfl, hP'⟩)
end
section
/-! ### apply: the plain law of the cycles, no program in sight -/
/-- one more visited place -/
def ag_ad (V : Nat → Bool) (j : Nat) : Nat → Bool := fun i => V i || decide (i = j)
theorem ag_ad1 {V : Nat → Bool} {j i : Nat} : ag_ad V j i = true ↔ V i = true ∨ i = j := by
  unfold ag_ad; simp
theorem ag_adj (V : Nat → Bool) (j : Nat) : ag_ad V j j = true := ag_ad1.mpr (Or.inr rfl)
theorem ag_ad0 {V : Nat → Bool} {j i : Nat} (h : ag_ad V j i = false) : V i = false ∧ i ≠ j := by
  unfold ag_ad at h; simp at h; exact h
theorem ag_adn {V : Nat → Bool} {j i : Nat} (h : i ≠ j) : ag_ad V j i = V i := by
  unfold ag_ad; simp [h]
/-- how many of the first n are visited -/
def ag_cn (V : Nat → Bool) : Nat → Nat
  | 0 => 0
  | n + 1 => ag_cn V n + (if V n = true then 1 else 0)
theorem ag_cnle (V : Nat → Bool) (n : Nat) : ag_cn V n ≤ n := by
  induction n with
  | zero => exact Nat.le_refl 0
  | succ n ih =>
    show ag_cn V n + (if V n = true then 1 else 0) ≤ n + 1
    by_cases h : V n = true
    · rw [if_pos h]; omega
    · rw [if_neg h]; omega
theorem ag_cnad {V : Nat → Bool} {j : Nat} (hj : V j = false) (n : Nat) : ag_cn (ag_ad V j) n = ag_cn V n + (if j < n then 1 else 0) := by
  induction n with
  | zero => rfl
  | succ n ih =>
    show ag_cn (ag_ad V j) n + (if ag_ad V j n = true then 1 else 0) = ag_cn V n + (if V n = true then 1 else 0) + (if j < n + 1 then 1 else 0)
    rw [ih]
    by_cases e : n = j
    · subst e
      rw [if_pos (ag_adj V n), hj, if_neg (Nat.lt_irrefl n), if_pos (Nat.lt_succ_self n), if_neg (by decide)]
    · rw [ag_adn e]
      by_cases h : j < n
      · rw [if_pos h, if_pos (show j < n + 1 by omega)]; omega
      · rw [if_neg h, if_neg (show ¬ j < n + 1 by omega)]; omega
/-- at the head of a turn with start s: all below s are visited, and each visited place is reached from a visited one -/
def ag_O (p : Nat → Nat) (s : Nat) (V : Nat → Bool) : Prop := (∀ i, i < s → V i = true) ∧ (∀ i, V i = true → i < 10) ∧ ∀ v, V v = true → ∃ w, V w = true ∧ p w = v
/-- within the cycle of s, at its place j that is not visited yet -/
def ag_I (p : Nat → Nat) (s : Nat) (V : Nat → Bool) (j : Nat) : Prop := (s < 10 ∧ j < 10 ∧ V j = false) ∧ (∀ i, i < s → V i = true) ∧ (∀ i, V i = true → i < 10) ∧ (j = s ∨ (V s = true ∧ ∃ w, V w = true ∧ p w = j)) ∧ ∀ v, V v = true → v = s ∨ ∃ w, V w = true ∧ p w = v
theorem ag_OI {p : Nat → Nat} {s : Nat} {V : Nat → Bool} (h : ag_O p s V) (hs : s < 10) (hV : V s = false) : ag_I p s V s :=
  ⟨⟨hs, hs, hV⟩, h.1, h.2.1, Or.inl rfl, fun v hv => Or.inr (h.2.2 v hv)⟩
theorem ag_OO {p : Nat → Nat} {s : Nat} {V : Nat → Bool} (h : ag_O p s V) (hV : V s = true) : ag_O p (s + 1) V :=
  ⟨fun i hi => by
    by_cases e : i = s
    · rw [e]; exact hV
    · exact h.1 i (by omega), h.2.1, h.2.2⟩
/-- the cycle closes -/
theorem ag_Iend {p : Nat → Nat} {s : Nat} {V : Nat → Bool} {j : Nat} (h : ag_I p s V j) (e : p j = s) : ag_O p (s + 1) (ag_ad V j) := by
  obtain ⟨⟨hs, hj, hV⟩, hlo, hhi, hjs, hpre⟩ := h
  have hsV : ag_ad V j s = true := by
    rcases hjs with e | ⟨e, _⟩
    · exact ag_ad1.mpr (Or.inr e.symm)
    · exact ag_ad1.mpr (Or.inl e)
  have hS : ∃ w, ag_ad V j w = true ∧ p w = s := ⟨j, ag_adj V j, e⟩
  refine ⟨fun i hi => ?_, fun i hi => ?_, fun v hv => ?_⟩
  · by_cases c : i = s
    · rw [c]; exact hsV
    · exact ag_ad1.mpr (Or.inl (hlo i (by omega)))
  · rcases ag_ad1.mp hi with c | c
    · exact hhi i c
    · omega
  · rcases ag_ad1.mp hv with c | c
    · rcases hpre v c with c | ⟨w, hw, c⟩
      · rw [c]; exact hS
      · exact ⟨w, ag_ad1.mpr (Or.inl hw), c⟩
    · subst c
      rcases hjs with c | ⟨_, w, hw, c⟩
      · rw [c] at hS ⊢; exact hS
      · exact ⟨w, ag_ad1.mpr (Or.inl hw), c⟩
/-- the cycle goes on, at a place that is not visited -/
theorem ag_Istep {p : Nat → Nat} (hp : ∀ i, i < 10 → p i < 10) (inj : ∀ i j, i < 10 → j < 10 → p i = p j → i = j) {s : Nat} {V : Nat → Bool} {j : Nat} (h : ag_I p s V j) (e : p j ≠ s) : ag_I p s (ag_ad V j) (p j) := by
  obtain ⟨⟨hs, hj, hV⟩, hlo, hhi, hjs, hpre⟩ := h
  have hw' : ∀ w, V w = true → p w = p j → False := by
    intro w hw c
    have := inj w j (hhi w hw) hj c
    rw [this, hV] at hw
    exact Bool.noConfusion hw
  have hn : ¬ ag_ad V j (p j) = true := by
    intro c
    rcases ag_ad1.mp c with c | c
    · rcases hpre _ c with c | ⟨w, hw, c⟩
      · exact e c
      · exact hw' w hw c
    · rcases hjs with d | ⟨_, w, hw, d⟩
      · exact e (c.trans d)
      · exact hw' w hw (d.trans c.symm)
  refine ⟨⟨hs, hp j hj, ?_⟩, fun i hi => ag_ad1.mpr (Or.inl (hlo i hi)), fun i hi => ?_, Or.inr ⟨?_, j, ag_adj V j, rfl⟩, fun v hv => ?_⟩
  · cases c : ag_ad V j (p j)
    · rfl
    · exact absurd c hn
  · rcases ag_ad1.mp hi with c | c
    · exact hhi i c
    · omega
  · rcases hjs with d | ⟨d, _⟩
    · exact ag_ad1.mpr (Or.inr d.symm)
    · exact ag_ad1.mpr (Or.inl d)
  · rcases ag_ad1.mp hv with c | c
    · rcases hpre v c with c | ⟨w, hw, c⟩
      · exact Or.inl c
      · exact Or.inr ⟨w, ag_ad1.mpr (Or.inl hw), c⟩
    · subst c
      rcases hjs with c | ⟨_, w, hw, c⟩
      · exact Or.inl c
      · exact Or.inr ⟨w, ag_ad1.mpr (Or.inl hw), c⟩
/-! what both sides hold when the places V are visited -/
def ag_XK (K : Nat → Int64) (p : Nat → Nat) (V : Nat → Bool) : Nat → Int64 := fun i => if V i = true then K (p i) else K i
def ag_XP (o : Nat → Int32) (p : Nat → Nat) (V : Nat → Bool) : Nat → Int32 := fun i => if V i = true then ag_ng (p i) else o i
def ag_YO (o : Nat → Int32) (V : Nat → Bool) : Nat → Int32 := fun i => if V i = true then nI i else o i
def ag_B (K : Nat → Int64) (p : Nat → Nat) (V : Nat → Bool) (b : Nat → Int64) : Prop := ∀ i, V i = true → b i = K (p i)
def ag_D (s : Nat) (V : Nat → Bool) (d : Nat → Int32) : Prop := ∀ i, s ≤ i → i < 10 → d i = if V i = true then 1 else 0
theorem ag_if {α : Type} {V : Nat → Bool} {j i : Nat} {a b : α} : (if ag_ad V j i = true then a else b) = if i = j then a else if V i = true then a else b := by
  by_cases h : i = j
  · rw [if_pos (ag_ad1.mpr (Or.inr h)), if_pos h]
  · rw [ag_adn h, if_neg h]
theorem ag_XKs {K : Nat → Int64} {p : Nat → Nat} {V : Nat → Bool} {j : Nat} : vp_updL (ag_XK K p V) j (K (p j)) = ag_XK K p (ag_ad V j) := by
  funext i; unfold vp_updL ag_XK; rw [ag_if]
  by_cases h : i = j
  · rw [if_pos h, if_pos h, h]
  · rw [if_neg h, if_neg h]
theorem ag_XPs {o : Nat → Int32} {p : Nat → Nat} {V : Nat → Bool} {j : Nat} : upd (ag_XP o p V) j (ag_ng (p j)) = ag_XP o p (ag_ad V j) := by
  funext i; unfold upd ag_XP; rw [ag_if]
  by_cases h : i = j
  · rw [if_pos h, if_pos h, h]
  · rw [if_neg h, if_neg h]
theorem ag_YOs {o : Nat → Int32} {V : Nat → Bool} {j : Nat} : upd (ag_YO o V) j (nI j) = ag_YO o (ag_ad V j) := by
  funext i; unfold upd ag_YO; rw [ag_if]
  by_cases h : i = j
  · rw [if_pos h, if_pos h, h]
  · rw [if_neg h, if_neg h]
theorem ag_Bs {K : Nat → Int64} {p : Nat → Nat} {V : Nat → Bool} {b : Nat → Int64} {j : Nat} (h : ag_B K p V b) : ag_B K p (ag_ad V j) (vp_updL b j (K (p j))) := by
  intro i hi
  unfold vp_updL
  by_cases e : i = j
  · rw [if_pos e, e]
  · rw [if_neg e]; rw [ag_adn e] at hi; exact h i hi
theorem ag_Ds {s : Nat} {V : Nat → Bool} {d : Nat → Int32} {j : Nat} (h : ag_D s V d) : ag_D s (ag_ad V j) (upd d j 1) := by
  intro i h1 h2
  unfold upd; rw [ag_if]
  by_cases e : i = j
  · rw [if_pos e, if_pos e]
  · rw [if_neg e, if_neg e]; exact h i h1 h2
theorem ag_Dn {s : Nat} {V : Nat → Bool} {d : Nat → Int32} {x : Int32} (h : ag_D s V d) : ag_D (s + 1) V (upd d s x) := by
  intro i h1 h2
  rw [ag_un (by omega)]; exact h i (by omega) h2
end
section
/-! ### apply: both walks against the visited places -/
/-- X's last loop -/
theorem ag_x117 (post : Int32 → SX → Prop) (c : Int32) (K : Nat → Int64) (o : Nat → Int32) (hp : post c (K, ag_id 10 o)) : ∀ t i, i + t = 10 → wX_apply_117 post c (t + 1) (nI i) K (ag_id i o) := by
  intro t
  induction t with
  | zero =>
    intro i hi
    have e : i = 10 := by omega
    subst e
    exact br_t (ag_ge (by omega) (by decide)) hp
  | succ t ih =>
    intro i hi
    have h : i < 10 := by omega
    have eo : upd (ag_id i o) (nI i).toNatClampNeg (vp_nar .byte (nI i).toInt8.toInt32) = ag_id (i + 1) o := by
      rw [ag_cl h, ag_nbb h, ag_ids]
    exact br_f (ag_nge h) ⟨ag_in h, nm_r eo (nm_r (nI_1 i) (ih (i + 1) (by omega)))⟩
/-- the first m keys out of b -/
def ag_cp (m : Nat) (b K : Nat → Int64) : Nat → Int64 := fun j => if j < m then b j else K j
theorem ag_cps (m : Nat) (b K : Nat → Int64) : vp_updL (ag_cp m b K) m (b m) = ag_cp (m + 1) b K := by
  funext j; unfold vp_updL ag_cp
  by_cases h : j = m
  · subst h; rw [if_pos rfl, if_pos (by omega)]
  · rw [if_neg h]
    by_cases g : j < m
    · rw [if_pos g, if_pos (by omega)]
    · rw [if_neg g, if_neg (by omega)]
/-- Y's last loop -/
theorem ag_y102 (post : Int32 → SY → Prop) (c : Int32) (K : Nat → Int64) (o : Nat → Int32) (b : Nat → Int64) (d : Nat → Int32) (hp : post c (ag_cp 10 b K, o, b, d)) : ∀ t i, i + t = 10 → wY_apply_102 post c (t + 1) (nI i) (ag_cp i b K) o b d := by
  intro t
  induction t with
  | zero =>
    intro i hi
    have e : i = 10 := by omega
    subst e
    exact br_t (ag_ge (by omega) (by decide)) hp
  | succ t ih =>
    intro i hi
    have h : i < 10 := by omega
    have eo : vp_updL (ag_cp i b K) (nI i).toNatClampNeg (b (nI i).toNatClampNeg) = ag_cp (i + 1) b K := by
      rw [ag_cl h, ag_cps]
    exact br_f (ag_nge h) ⟨ag_in h, ag_in h, nm_r eo (nm_r (nI_1 i) (ih (i + 1) (by omega)))⟩
/-- Y's first loop -/
theorem ag_y2 (post : Int32 → SY → Prop) (K : Nat → Int64) (o : Nat → Int32) (b : Nat → Int64) (hY : ∀ d : Nat → Int32, (∀ m, m < 10 → d m = 0) → ∃ n, wY_apply_27 post n 0 0 0 K o b d) : ∀ t i, i + t = 10 → ∀ d : Nat → Int32, (∀ m, m < i → d m = 0) → wY_apply_2 post (t + 1) (nI i) K o b d := by
  intro t
  induction t with
  | zero =>
    intro i hi d hd
    have e : i = 10 := by omega
    subst e
    exact br_t (ag_ge (by omega) (by decide)) (hY d hd)
  | succ t ih =>
    intro i hi d hd
    have h : i < 10 := by omega
    refine br_f (ag_nge h) ⟨ag_in h, nm_r (e' := upd d i 0) ?_ (nm_r (nI_1 i) (ih (i + 1) (by omega) _ ?_))⟩
    · rw [ag_cl h, ag_nc0]
    · intro m hm
      by_cases e : m = i
      · subst e; exact ag_us
      · rw [ag_un e]; exact hd m (by omega)
/-- one cycle, from its place j on: an outcome for both sides -/
theorem ag_cyc {K : Nat → Int64} {o : Nat → Int32} {p : Nat → Nat} (hp : ∀ i, i < 10 → p i < 10) (ho : ∀ i, i < 10 → o i = nI (p i)) (inj : ∀ i j, i < 10 → j < 10 → p i = p j → i = j) {s : Nat} : ∀ m (V : Nat → Bool) (j : Nat), ag_I p s V j → 10 ≤ ag_cn V 10 + m → ∃ V' : Nat → Bool, ag_O p (s + 1) V' ∧ (∀ (post : Int32 → SX → Prop) (J : Int32 → Int32 → (Nat → Int64) → (Nat → Int32) → Prop) (c : Int32), J c (nI (s + 1)) (ag_XK K p V') (ag_XP o p V') → ∃ n, wX_apply_41 post J c (nI s) (K s) n (nI j) (nI (p j)) (ag_XK K p V) (ag_XP o p V)) ∧ (∀ (post : Int32 → SY → Prop) (c : Int32) (b : Nat → Int64) (d : Nat → Int32), ag_B K p V b → ag_D s (ag_ad V j) d → (∀ b' d', ag_B K p V' b' → ag_D (s + 1) V' d' → ∃ n, wY_apply_27 post n c (nI (s + 1)) (nI (s + 1)) K (ag_YO o V') b' d') → ∃ n, wY_apply_64 post (wY_apply_27 post n) c (nI s) (nI j) K (ag_YO o V) b d) := by
  intro m
  induction m with
  | zero =>
    intro V j hI hm
    have h1 := ag_cnad hI.1.2.2 10
    have h2 := ag_cnle (ag_ad V j) 10
    rw [if_pos hI.1.2.1] at h1
    exact absurd hm (by omega)
  | succ m ih =>
    intro V j hI hm
    have hs : s < 10 := hI.1.1
    have hj : j < 10 := hI.1.2.1
    have hpj : p j < 10 := hp j hj
    have hV : V j = false := hI.1.2.2
    have eY : ag_YO o V (nI j).toNatClampNeg = nI (p j) := by
      rw [ag_cl hj]; unfold ag_YO; rw [hV, if_neg (by decide), ho j hj]
    have eP : upd (ag_XP o p V) (nI j).toNatClampNeg (vp_nar .byte ((nI (p j) ^^^ (-1)).toInt8.toInt32)) = ag_XP o p (ag_ad V j) := by
      rw [ag_cl hj]; exact ag_XPs
    have eO : upd (ag_YO o V) (nI j).toNatClampNeg (vp_nar .short (nI j).toInt16.toInt32) = ag_YO o (ag_ad V j) := by
      rw [ag_cl hj, ag_nss hj, ag_YOs]
    have eB : ∀ b : Nat → Int64, vp_updL b (nI j).toNatClampNeg (K (nI (p j)).toNatClampNeg) = vp_updL b j (K (p j)) := by
      intro b; rw [ag_cl hj, ag_cl hpj]
    by_cases e : p j = s
    · refine ⟨ag_ad V j, ag_Iend hI e, fun post J c hJ => ⟨1, ?_⟩, fun post c b d hB hD hC => ?_⟩
      · refine br_t (by rw [e]) ⟨ag_in hj, nm_r (e' := ag_XK K p (ag_ad V j)) ?_ ⟨ag_in hj, nm_r eP (nm_r (nI_1 s) hJ)⟩⟩
        rw [ag_cl hj, ← e]; exact ag_XKs
      · obtain ⟨n, hn⟩ := hC (vp_updL b j (K (p j))) (upd d s (vp_nar .char (((d s + 1).toUInt32 % 65536).toInt32))) (ag_Bs hB) (ag_Dn hD)
        have hsV : ag_ad V j s = true := (ag_Iend hI e).1 s (by omega)
        have ed : ¬ d s = 0 := by
          rw [hD s (Nat.le_refl s) hs, if_pos hsV]; decide
        refine ⟨n + 1, And.intro (ag_in hj) (nm_r eY ⟨ag_in hpj, ag_in hj, nm_r (eB b) ⟨ag_in hj, nm_r eO ?_⟩⟩)⟩
        rw [e] at hn ⊢
        refine br_f (ag_nge hs) ?_
        rw [ag_cl hs]
        exact ⟨ag_in hs, ag_in hs, nm_e (br_f ed (nm_r (nI_1 s) hn))⟩
    · have hI' := ag_Istep hp inj hI e
      have hV1 : ag_ad V j (p j) = false := hI'.1.2.2
      have hV0 : V (p j) = false ∧ p j ≠ j := ag_ad0 hV1
      have hcn := ag_cnad hV 10
      rw [if_pos hj] at hcn
      obtain ⟨V', hO, hX, hY⟩ := ih (ag_ad V j) (p j) hI' (by omega)
      have hge : s ≤ p j := by
        by_cases g : p j < s
        · have := hI.2.1 (p j) g
          rw [hV0.1] at this; exact Bool.noConfusion this
        · omega
      have ne : ¬ nI (p j) = nI s := fun c => e ((nI_eq (by omega) (by omega)).mp c)
      refine ⟨V', hO, fun post J c hJ => ?_, fun post c b d hB hD hC => ?_⟩
      · obtain ⟨n, hn⟩ := hX post J c hJ
        refine ⟨n + 1, br_f ne ⟨ag_in hpj, ag_in hj, nm_r (e' := ag_XK K p (ag_ad V j)) ?_ ⟨ag_in hj, nm_r eP ⟨ag_in hpj, nm_r (e' := nI (p (p j))) ?_ hn⟩⟩⟩⟩
        · have : ag_XK K p V (p j) = K (p j) := by unfold ag_XK; rw [hV0.1, if_neg (by decide)]
          rw [ag_cl hj, ag_cl hpj, this]; exact ag_XKs
        · rw [ag_cl hpj]; unfold ag_XP; rw [hV1, if_neg (by decide), ho _ hpj]
      · have ed : d (p j) = 0 := by
          rw [hD (p j) hge hpj, hV1, if_neg (by decide)]
        obtain ⟨n, hn⟩ := hY post c (vp_updL b j (K (p j))) (upd d (p j) 1) (ag_Bs hB) (ag_Ds hD) hC
        refine ⟨n + 1, And.intro (ag_in hj) (nm_r eY ⟨ag_in hpj, ag_in hj, nm_r (eB b) ⟨ag_in hj, nm_r eO ?_⟩⟩)⟩
        refine br_f (ag_nge hs) ?_
        rw [ag_cl hpj, ed, ag_nc1]
        exact ⟨ag_in hpj, ag_in hpj, nm_e (br_t rfl (br_f ne hn))⟩
/-- what apply leaves in the keys -/
def ag_KF (K : Nat → Int64) (p : Nat → Nat) : Nat → Int64 := fun i => if i < 10 then K (p i) else K i
/-- all cycles: one answer for both sides -/
theorem ag_all {K : Nat → Int64} {o : Nat → Int32} {p : Nat → Nat} (hp : ∀ i, i < 10 → p i < 10) (ho : ∀ i, i < 10 → o i = nI (p i)) (inj : ∀ i j, i < 10 → j < 10 → p i = p j → i = j) : ∀ t s, s + t = 10 → ∀ (V : Nat → Bool) (c : Int32), ag_O p s V → ∃ r : Int32, (∀ post : Int32 → SX → Prop, post r (ag_KF K p, ag_id 10 o) → ∃ n, wX_apply_4 post n c (nI s) (ag_XK K p V) (ag_XP o p V)) ∧ (∀ (post : Int32 → SY → Prop) (b : Nat → Int64) (d : Nat → Int32), ag_B K p V b → ag_D s V d → (∀ b' d', post r (ag_KF K p, ag_id 10 o, b', d')) → ∃ n, wY_apply_27 post n c (nI s) (nI s) K (ag_YO o V) b d) := by
  intro t
  induction t with
  | zero =>
    intro s hs V c hO
    have e : s = 10 := by omega
    subst e
    have g : (10 : Int32) ≤ nI 10 := ag_ge (by omega) (by decide)
    have hV : ∀ i, V i = true ↔ i < 10 := fun i => ⟨hO.2.1 i, hO.1 i⟩
    have e1 : ag_XK K p V = ag_KF K p := by
      funext i; unfold ag_XK ag_KF
      by_cases h : i < 10
      · rw [if_pos ((hV i).mpr h), if_pos h]
      · rw [if_neg (fun c => h ((hV i).mp c)), if_neg h]
    have e2 : ag_id 10 (ag_XP o p V) = ag_id 10 o := by
      funext i; unfold ag_id ag_XP
      by_cases h : i < 10
      · rw [if_pos h, if_pos h]
      · rw [if_neg h, if_neg h, if_neg (fun c => h ((hV i).mp c))]
    have e3 : ag_YO o V = ag_id 10 o := by
      funext i; unfold ag_YO ag_id
      by_cases h : i < 10
      · rw [if_pos ((hV i).mpr h), if_pos h]
      · rw [if_neg (fun c => h ((hV i).mp c)), if_neg h]
    refine ⟨c, fun post h => ⟨1, br_t g ⟨11, ?_⟩⟩, fun post b d hB hD h => ⟨1, br_t g ⟨11, ?_⟩⟩⟩
    · have := ag_x117 post c (ag_XK K p V) (ag_XP o p V) (by rw [e1, e2]; exact h) 10 0 rfl
      rw [ag_id0] at this; exact this
    · have e4 : ag_cp 10 b K = ag_KF K p := by
        funext i; unfold ag_cp ag_KF
        by_cases h : i < 10
        · rw [if_pos h, if_pos h, hB i ((hV i).mpr h)]
        · rw [if_neg h, if_neg h]
      have e5 : ag_cp 0 b K = K := by funext i; exact if_neg (Nat.not_lt_zero i)
      have := ag_y102 post c K (ag_YO o V) b d (by rw [e4, e3]; exact h b d) 10 0 rfl
      rw [e5] at this; exact this
  | succ t ih =>
    intro s hst V c hO
    have hs : s < 10 := by omega
    have hps : p s < 10 := hp s hs
    cases hV : V s with
    | true =>
      obtain ⟨r, hX, hY⟩ := ih (s + 1) (by omega) V c (ag_OO hO hV)
      refine ⟨r, fun post h => ?_, fun post b d hB hD h => ?_⟩
      · obtain ⟨n, hn⟩ := hX post h
        refine ⟨n + 1, br_f (ag_nge hs) ⟨ag_in hs, br_t ?_ (nm_r (nI_1 s) hn)⟩⟩
        rw [ag_cl hs]; unfold ag_XP; rw [if_pos hV]; exact ag_ngn hps
      · have ed : ¬ d s = 0 := by
          rw [hD s (Nat.le_refl s) hs, if_pos hV]; decide
        obtain ⟨n, hn⟩ := hY post b (upd d s (vp_nar .char (((d s + 1).toUInt32 % 65536).toInt32))) hB (ag_Dn hD) h
        refine ⟨n + 1, br_f (ag_nge hs) ?_⟩
        rw [ag_cl hs]
        exact ⟨ag_in hs, ag_in hs, nm_e (br_f ed (nm_r (nI_1 s) hn))⟩
    | false =>
      obtain ⟨V', hO', hX1, hY1⟩ := ag_cyc (K := K) (o := o) hp ho inj 10 V s (ag_OI hO hs hV) (by omega)
      obtain ⟨r, hX, hY⟩ := ih (s + 1) (by omega) V' (c + 1) hO'
      refine ⟨r, fun post h => ?_, fun post b d hB hD h => ?_⟩
      · obtain ⟨n, hn⟩ := hX post h
        have h1 := hX1 post (wX_apply_4 post n) (c + 1) hn
        have ep : ag_XP o p V s = nI (p s) := by unfold ag_XP; rw [hV, if_neg (by decide), ho s hs]
        have ek : ag_XK K p V s = K s := by unfold ag_XK; rw [hV, if_neg (by decide)]
        refine ⟨n + 1, br_f (ag_nge hs) ?_⟩
        rw [ag_cl hs, ep, ek]
        exact ⟨ag_in hs, br_f (nI_pos (by omega)) (nm_e ⟨ag_in hs, nm_e ⟨ag_in hs, nm_e h1⟩⟩)⟩
      · have ed : d s = 0 := by
          rw [hD s (Nat.le_refl s) hs, hV, if_neg (by decide)]
        obtain ⟨n, hn⟩ := hY1 post (c + 1) b (upd d s 1) hB (ag_Ds hD) (fun b' d' h1 h2 => hY post b' d' h1 h2 h)
        refine ⟨n + 1, br_f (ag_nge hs) ?_⟩
        rw [ag_cl hs, ed, ag_nc1]
        exact ⟨ag_in hs, ag_in hs, nm_e (br_t rfl (br_t rfl (nm_e hn)))⟩
end
section
/-! ### apply: the owed statement -/
theorem i_vc_apply {k : Nat} {u : SX} {v : SY} (I : i_Rel k u v) (hk : k + 4 ≤ 2048) : wpX_apply (fun r u' => wpY_apply (fun r' v' => r' = r ∧ i_Rel (k + 4) u' v') v) u := by
  obtain ⟨K, o, b, d, rfl, rfl, hP⟩ := I
  have ho : ∀ i, i < 10 → (o i).toNatClampNeg < 10 ∧ o i = nI (o i).toNatClampNeg := by
    intro i hi
    obtain ⟨q, hq, e⟩ := hP.1 i hi
    rw [e, ag_cl hq]; exact ⟨hq, rfl⟩
  obtain ⟨r, hX, hY⟩ := ag_all (K := K) (o := o) (p := fun i => (o i).toNatClampNeg) (fun i hi => (ho i hi).1) (fun i hi => (ho i hi).2)
    (fun i j hi hj e => hP.2 i j hi hj (by rw [(ho i hi).2, (ho j hj).2]; exact congrArg nI e))
    10 0 rfl (fun _ => false) 0 ⟨fun i hi => absurd hi (Nat.not_lt_zero i), fun i hi => Bool.noConfusion hi, fun i hi => Bool.noConfusion hi⟩
  refine hX _ ⟨11, ag_y2 _ K o b (fun d' hd' => ?_) 10 0 rfl d (fun m hm => absurd hm (Nat.not_lt_zero m))⟩
  exact hY _ b d' (fun i hi => Bool.noConfusion hi) (fun i _ hi => hd' i hi) (fun b' d'' => ⟨rfl, _, _, _, _, rfl, rfl, ag_Pid o⟩)
end

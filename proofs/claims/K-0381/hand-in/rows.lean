section
theorem pk_us {f : Nat → Int32} {k : Nat} {x : Int32} : upd f k x k = x := if_pos rfl
theorem pk_un {f : Nat → Int32} {k j : Nat} {x : Int32} (h : j ≠ k) : upd f k x j = f j := if_neg h
theorem pk_nb (z : Int32) : narrow .byte (.int z.toInt8.toInt32) = .int z.toInt8.toInt32 := congrArg Value.int (by simp)
theorem pk_fb (r : Int32) : fits .byte (.int r.toInt8.toInt32) = true := by
  have ⟨a, b⟩ := lg_i2b_range r
  have h1 : (-128 : Int32).toInt = -128 := by decide
  have h2 : (127 : Int32).toInt = 127 := by decide
  simp only [fits, Bool.and_eq_true, decide_eq_true_eq, Int32.le_iff_toInt_le, h1, h2]
  omega
theorem pk_vs (z : Int32) : vp_nar .short z.toInt16.toInt32 = z.toInt16.toInt32 := by rw [vp_nar_short]; simp
/-- m pairs are held: their ids lie within 0..32767 and differ -/
def ic_ok (m : Nat) (a : Nat → Int32) : Prop := (∀ i, i < m → ¬ a i < 0 ∧ a i ≤ 32767) ∧ (∀ i j, i < m → j < m → a i = a j → i = j)
/-- the state after a new pair at place m -/
def ic_st (m : Nat) : Int32 := if m = 0 then 1 else 2
/-- the target as it is stored -/
def ic_w (q : Int32) : Int32 := vp_nar .char ((q.toUInt32 % 65536).toInt32)
theorem ic_st3 (m : Nat) : ¬ ic_st m = 3 := by
  unfold ic_st; split <;> decide
theorem ic_inc : ∀ m, m < 4 → (nI m + 1).toInt8.toInt32 = nI (m + 1) := by decide
theorem ic_short {c : Int32} (h0 : ¬ c < 0) (h1 : c ≤ 32767) : vp_nar .short c.toInt16.toInt32 = c := by
  obtain ⟨j, hj, rfl⟩ := nI_of2 (M := 32767) (n := 32767) (by decide) h0 h1
  have e : (nI j).toInt = (j : Int) := nI_toInt (by omega)
  rw [pk_vs, lg_i2s_small (by omega) (by omega)]
theorem ic_ok0 (a : Nat → Int32) : ic_ok 0 a := ⟨fun i h => absurd h (Nat.not_lt_zero i), fun i j h => absurd h (Nat.not_lt_zero i)⟩
theorem ic_okN {m : Nat} {a : Nat → Int32} {c : Int32} (h : ic_ok m a) (hn : ∀ i, i < m → ¬ a i = c) (h0 : ¬ c < 0) (h1 : c ≤ 32767) : ic_ok (m + 1) (upd a m c) := by
  have E : ∀ i, i < m → upd a m c i = a i := fun i hi => pk_un (by omega)
  have EM : upd a m c m = c := pk_us
  refine ⟨?_, ?_⟩
  · intro i hi
    by_cases z : i = m
    · rw [z, EM]; exact ⟨h0, h1⟩
    · rw [E i (by omega)]; exact h.1 i (by omega)
  · intro i j hi hj e
    by_cases z : i = m
    · by_cases y : j = m
      · omega
      · rw [z, EM, E j (by omega)] at e
        exact absurd e.symm (hn j (by omega))
    · by_cases y : j = m
      · rw [y, EM, E i (by omega)] at e
        exact absurd e (hn i (by omega))
      · rw [E i (by omega), E j (by omega)] at e
        exact h.2 i j (by omega) (by omega) e
/-- the component's scan in lookup -/
theorem ic_xl {post : Int32 → Prop} {c s : Int32} {m : Nat} {a t : Nat → Int32} (hm : m ≤ 4)
    (h1 : ∀ j, j < m → a j = c → post (t j)) (h2 : (∀ i, i < m → ¬ a i = c) → post (-1)) :
    ∀ d i : Nat, i + d = m → (∀ k, k < i → ¬ a k = c) → wX_lookup_25 post c s (nI m) a t (d + 1) (nI i) := by
  intro d
  induction d with
  | zero =>
    intro i hi hk
    have e : i = m := by omega
    subst e
    exact br_t (nI_le (by omega) (by omega)) (h2 hk)
  | succ d ih =>
    intro i hi hk
    have h : ¬ nI m ≤ nI i := nI_ge (by omega) (by omega)
    have hv : vp_in (nI i) 4 := vp_in_nI (by omega) (by omega)
    have hc : (nI i).toNatClampNeg = i := nI_clamp (by omega)
    by_cases z : a i = c
    · exact br_f h ⟨hv, br_t (by rw [hc]; exact z) ⟨hv, by rw [hc]; exact h1 i (by omega) z⟩⟩
    · exact br_f h ⟨hv, br_f (by rw [hc]; exact z) (nm_r (nI_1 i) (ih (i + 1) (by omega) (lt_s (p := fun k => ¬ a k = c) hk z)))⟩
/-- the reference's find: the id is held, at j alone -/
theorem ic_yhit {post : Int32 → Prop} {c s : Int32} {m j : Nat} {a t : Nat → Int32} (hm : m ≤ 4) (hj : j < m) (e : a j = c)
    (hu : ∀ i, i < m → a i = c → i = j) (hp : post (nI j)) :
    ∀ (d i : Nat) (x : Int32), i + d = m → (j < i → x = nI j) → wY_find_4 post c s (nI m) a t (d + 1) x (nI i) := by
  intro d
  induction d with
  | zero =>
    intro i x hi hx
    exact br_t (nI_le (by omega) (by omega)) (by rw [hx (by omega)]; exact hp)
  | succ d ih =>
    intro i x hi hx
    have h : ¬ nI m ≤ nI i := nI_ge (by omega) (by omega)
    have hv : vp_in (nI i) 4 := vp_in_nI (by omega) (by omega)
    have hc : (nI i).toNatClampNeg = i := nI_clamp (by omega)
    by_cases z : a i = c
    · have ej : i = j := hu i (by omega) z
      exact br_f h ⟨hv, br_t (by rw [hc]; exact z) (nm_r (nI_1 i) (ih (i + 1) (nI i) (by omega) (fun _ => by rw [ej])))⟩
    · have ne : j ≠ i := fun q => z (by rw [← q]; exact e)
      exact br_f h ⟨hv, br_f (by rw [hc]; exact z) (nm_r (nI_1 i) (ih (i + 1) x (by omega) (fun hji => hx (by omega))))⟩
/-- the reference's find: the id isn't held -/
theorem ic_ynone {post : Int32 → Prop} {c s x : Int32} {m : Nat} {a t : Nat → Int32} (hm : m ≤ 4)
    (hn : ∀ i, i < m → ¬ a i = c) (hp : post x) :
    ∀ d i : Nat, i + d = m → wY_find_4 post c s (nI m) a t (d + 1) x (nI i) := by
  intro d
  induction d with
  | zero =>
    intro i hi
    exact br_t (nI_le (by omega) (by omega)) hp
  | succ d ih =>
    intro i hi
    have h : ¬ nI m ≤ nI i := nI_ge (by omega) (by omega)
    have hv : vp_in (nI i) 4 := vp_in_nI (by omega) (by omega)
    have hc : (nI i).toNatClampNeg = i := nI_clamp (by omega)
    exact br_f h ⟨hv, br_f (by rw [hc]; exact hn i (by omega)) (nm_r (nI_1 i) (ih (i + 1) (by omega)))⟩
theorem ic_fhit {post : Int32 → Prop} {c s : Int32} {m j : Nat} {a t : Nat → Int32} (hm : m ≤ 4) (hj : j < m) (e : a j = c)
    (hu : ∀ i, i < m → a i = c → i = j) (hp : post (nI j)) : wpY_find post (s, nI m, a, t) c :=
  ⟨m + 1, ic_yhit hm hj e hu hp m 0 (-1) (by omega) (fun h => absurd h (Nat.not_lt_zero j))⟩
theorem ic_fnone {post : Int32 → Prop} {c s : Int32} {m : Nat} {a t : Nat → Int32} (hm : m ≤ 4)
    (hn : ∀ i, i < m → ¬ a i = c) (hp : post (-1)) : wpY_find post (s, nI m, a, t) c :=
  ⟨m + 1, ic_ynone hm hn hp m 0 (by omega)⟩
theorem ic_lhit {post : Int32 → Prop} {c s : Int32} {m j : Nat} {a t : Nat → Int32} (hm : m ≤ 4) (hj : j < m) (e : a j = c)
    (hu : ∀ i, i < m → a i = c → i = j) (hp : post (t j)) : wpY_lookup post (s, nI m, a, t) c := by
  unfold wpY_lookup
  dsimp only
  refine ic_fhit hm hj e hu ?_
  refine br_t (nI_pos' (by omega)) ⟨vp_in_nI (by omega) (by omega), ?_⟩
  rw [nI_clamp (by omega)]
  exact hp
theorem ic_lnone {post : Int32 → Prop} {c s : Int32} {m : Nat} {a t : Nat → Int32} (hm : m ≤ 4)
    (hn : ∀ i, i < m → ¬ a i = c) (hp : post (-1)) : wpY_lookup post (s, nI m, a, t) c := by
  unfold wpY_lookup
  dsimp only
  refine ic_fnone hm hn ?_
  exact br_f (by decide) hp
/-- the component's clearing loop -/
theorem ic_x83 {post : Int32 → SX → Prop} {s f : Int32} (hp : ∀ a t : Nat → Int32, post 3 (3, 0, a, t)) :
    ∀ (d i : Nat) (a t : Nat → Int32), i + d = 4 → wX_miss_83 post s f (d + 1) (nI i) a t := by
  intro d
  induction d with
  | zero =>
    intro i a t hi
    exact br_t (nI_le (a := 4) (by omega) (by omega)) (hp a t)
  | succ d ih =>
    intro i a t hi
    have hv : vp_in (nI i) 4 := vp_in_nI (by omega) (by omega)
    exact br_f (nI_ge (b := 4) (by omega) (by omega)) ⟨hv, fun a' _ => ⟨hv, fun t' _ => nm_r (nI_1 i) (ih (i + 1) a' t' (by omega))⟩⟩
/-- the component's scan in miss, and what comes behind it -/
theorem ic_xm {post : Int32 → SX → Prop} {c q s : Int32} {m : Nat} {a t : Nat → Int32} (hm : m ≤ 4) (hc0 : ¬ c < 0) (hc1 : c ≤ 32767)
    (h1 : ∀ j, j < m → a j = c → post 0 (s, nI m, a, upd t j (ic_w q)))
    (h2 : (∀ i, i < m → ¬ a i = c) → m < 4 → post (ic_st m) (ic_st m, nI (m + 1), upd a m c, upd t m (ic_w q)))
    (h3 : (∀ i, i < m → ¬ a i = c) → m = 4 → ∀ a' t' : Nat → Int32, post 3 (3, 0, a', t')) :
    ∀ d i : Nat, i + d = m → (∀ k, k < i → ¬ a k = c) → wX_miss_39 post c q s (nI m) a t (d + 1) (nI i) := by
  intro d
  induction d with
  | zero =>
    intro i hi hk
    have e : i = m := by omega
    subst e
    refine br_t (nI_le (by omega) (by omega)) ?_
    by_cases h4 : i < 4
    · have hv : vp_in (nI i) 4 := vp_in_nI (by omega) (by omega)
      have hcl : (nI i).toNatClampNeg = i := nI_clamp (by omega)
      have P := h2 hk h4
      refine br_t (nI_lt (b := 4) h4 (by omega)) ⟨hv, nm_r (e' := upd a i c) (by rw [hcl, ic_short hc0 hc1]) ⟨hv, nm_r (e' := upd t i (ic_w q)) (by rw [hcl]; rfl) (fun y ey => ⟨by rw [ey]; exact pk_nb _, by rw [ey]; exact pk_fb _, ?_⟩)⟩⟩
      have ey' : y = nI (i + 1) := ey.trans (ic_inc i h4)
      rw [ey']
      by_cases z : i = 0
      · rw [show ic_st i = 1 from if_pos z] at P
        exact br_t (by rw [z]; rfl) P
      · rw [show ic_st i = 2 from if_neg z] at P
        exact br_f (fun w => z (by have := (nI_eq (a := i + 1) (b := 1) (by omega) (by omega)).mp w; omega)) P
    · exact br_f (nI_nlt (b := 4) (by omega) (by omega)) ⟨5, ic_x83 (h3 hk (by omega)) 4 0 a t rfl⟩
  | succ d ih =>
    intro i hi hk
    have h : ¬ nI m ≤ nI i := nI_ge (by omega) (by omega)
    have hv : vp_in (nI i) 4 := vp_in_nI (by omega) (by omega)
    have hc : (nI i).toNatClampNeg = i := nI_clamp (by omega)
    by_cases z : a i = c
    · exact br_f h ⟨hv, br_t (by rw [hc]; exact z) ⟨hv, nm_r (e' := upd t i (ic_w q)) (by rw [hc]; rfl) (h1 i (by omega) z)⟩⟩
    · exact br_f h ⟨hv, br_f (by rw [hc]; exact z) (nm_r (nI_1 i) (ih (i + 1) (by omega) (lt_s (p := fun k => ¬ a k = c) hk z)))⟩
/-- the reference's miss: the id is held at j -/
theorem ic_mhit {post : Int32 → SY → Prop} {c q s : Int32} {m j : Nat} {a t : Nat → Int32} (hm : m ≤ 4) (hs : ¬ s = 3) (hc0 : ¬ c < 0) (hc1 : c ≤ 32767)
    (hq0 : ¬ q < 0) (hq1 : q ≤ 65535) (hj : j < m) (e : a j = c) (hu : ∀ i, i < m → a i = c → i = j)
    (hp : post 0 (s, nI m, a, upd t j (ic_w q))) : wpY_miss post (s, nI m, a, t) c q := by
  unfold wpY_miss
  dsimp only
  refine br_f hc0 (br_t hc1 (br_f hq0 (br_t hq1 (br_f hs ?_))))
  refine ic_fhit hm hj e hu ?_
  refine br_f (nI_pos (by omega)) ⟨vp_in_nI (by omega) (by omega), ?_⟩
  exact nm_r (e' := upd t j (ic_w q)) (by rw [nI_clamp (by omega)]; rfl) hp
/-- the reference's miss: all four places are taken -/
theorem ic_mfull {post : Int32 → SY → Prop} {c q s : Int32} {m : Nat} {a t : Nat → Int32} (hm : m = 4) (hs : ¬ s = 3) (hc0 : ¬ c < 0) (hc1 : c ≤ 32767)
    (hq0 : ¬ q < 0) (hq1 : q ≤ 65535) (hn : ∀ i, i < m → ¬ a i = c)
    (hp : post 3 (3, 0, a, t)) : wpY_miss post (s, nI m, a, t) c q := by
  unfold wpY_miss
  dsimp only
  refine br_f hc0 (br_t hc1 (br_f hq0 (br_t hq1 (br_f hs ?_))))
  refine ic_fnone (by omega) hn ?_
  exact br_t (by decide) (br_t (by rw [hm]; rfl) hp)
/-- the reference's miss: a new pair -/
theorem ic_mnew {post : Int32 → SY → Prop} {c q s : Int32} {m : Nat} {a t : Nat → Int32} (hm : m < 4) (hs : ¬ s = 3) (hc0 : ¬ c < 0) (hc1 : c ≤ 32767)
    (hq0 : ¬ q < 0) (hq1 : q ≤ 65535) (hn : ∀ i, i < m → ¬ a i = c)
    (hp : post (ic_st m) (ic_st m, nI (m + 1), upd a m c, upd t m (ic_w q))) : wpY_miss post (s, nI m, a, t) c q := by
  unfold wpY_miss
  dsimp only
  refine br_f hc0 (br_t hc1 (br_f hq0 (br_t hq1 (br_f hs ?_))))
  refine ic_fnone (by omega) hn ?_
  have hv : vp_in (nI m) 4 := vp_in_nI (by omega) (by omega)
  have hcl : (nI m).toNatClampNeg = m := nI_clamp (by omega)
  refine br_t (by decide) (br_f (fun w => by have := (nI_eq (a := m) (b := 4) (by omega) (by omega)).mp w; omega) ?_)
  refine ⟨hv, nm_r (e' := upd t m (ic_w q)) (by rw [hcl]; rfl) (fun y ey => ⟨by rw [ey]; exact pk_nb _, by rw [ey]; exact pk_fb _, hv, nm_r (e' := upd a m c) (by rw [hcl, ic_short hc0 hc1]) ?_⟩)⟩
  have ey' : y = nI (m + 1) := ey.trans (ic_inc m hm)
  rw [ey']
  by_cases z : m = 0
  · rw [show ic_st m = 1 from if_pos z] at hp
    refine br_t (by rw [z]; rfl) (fun f ef => ⟨by rw [ef]; exact pk_nb _, by rw [ef]; exact pk_fb _, ?_⟩)
    have ef' : f = 1 := ef.trans (by decide)
    rw [ef']
    exact hp
  · rw [show ic_st m = 2 from if_neg z] at hp
    refine br_f (fun w => z (by have := (nI_eq (a := m + 1) (b := 1) (by omega) (by omega)).mp w; omega)) (fun f ef => ⟨by rw [ef]; exact pk_nb _, by rw [ef]; exact pk_fb _, ?_⟩)
    have ef' : f = 2 := ef.trans (by decide)
    rw [ef']
    exact hp
end
section
/-- megamorphic on both sides (the arrays are dead), or the same pairs on both sides -/
def i_Rel (k : Nat) (u : SX) (v : SY) : Prop :=
  (∃ a t b d : Nat → Int32, u = (3, 0, a, t) ∧ v = (3, 0, b, d)) ∨
  (∃ (s : Int32) (m : Nat) (a t : Nat → Int32), u = (s, nI m, a, t) ∧ v = (s, nI m, a, t) ∧ ¬ s = 3 ∧ m ≤ 4 ∧ ic_ok m a)
theorem i_up {k : Nat} {u : SX} {v : SY} (h : i_Rel k u v) : i_Rel (k + 3) u v := h
theorem i_vc0 : wpX_init (fun u => wpY_init (fun v => i_Rel 0 u v)) :=
  Or.inr ⟨0, 0, fun _ => 0, fun _ => 0, rfl, rfl, by decide, by decide, ic_ok0 _⟩
theorem i_vc_lookup {k : Nat} {u : SX} {v : SY} (I : i_Rel k u v) (hk : k + 3 ≤ 1536) (v1 : Int32) : wpX_lookup (fun r => wpY_lookup (fun r' => r' = r ∧ i_Rel (k + 3) u v) v v1) u v1 := by
  rcases I with ⟨a, t, b, d, rfl, rfl⟩ | ⟨s, m, a, t, rfl, rfl, hs, hm, hok⟩
  · have K : i_Rel (k + 3) (3, 0, a, t) (3, 0, b, d) := Or.inl ⟨a, t, b, d, rfl, rfl⟩
    have hy : wpY_lookup (fun r' => r' = (-1) ∧ i_Rel (k + 3) (3, 0, a, t) (3, 0, b, d)) (3, nI 0, b, d) v1 :=
      ic_lnone (by omega) (fun i h => absurd h (Nat.not_lt_zero i)) ⟨rfl, K⟩
    exact br_c (fun _ => hy) (fun _ => br_c (fun _ => br_t rfl hy) (fun _ => hy))
  · have K : i_Rel (k + 3) (s, nI m, a, t) (s, nI m, a, t) := Or.inr ⟨s, m, a, t, rfl, rfl, hs, hm, hok⟩
    have hy : (∀ i, i < m → ¬ a i = v1) → wpY_lookup (fun r' => r' = (-1) ∧ i_Rel (k + 3) (s, nI m, a, t) (s, nI m, a, t)) (s, nI m, a, t) v1 :=
      fun hn => ic_lnone hm hn ⟨rfl, K⟩
    refine br_c (fun h0 => hy (fun i hi e => (hok.1 i hi).1 (by rw [e]; exact h0))) (fun h0 => br_c (fun h1 => br_f hs ⟨m + 1, ?_⟩) (fun h1 => hy (fun i hi e => h1 (by rw [← e]; exact (hok.1 i hi).2))))
    refine ic_xl hm ?_ hy m 0 (by omega) lt_0
    intro j hj e
    exact ic_lhit hm hj e (fun i hi ei => hok.2 i j hi hj (ei.trans e.symm)) ⟨rfl, K⟩
theorem i_vc_miss {k : Nat} {u : SX} {v : SY} (I : i_Rel k u v) (hk : k + 3 ≤ 1536) (v1 : Int32) (v2 : Int32) : wpX_miss (fun r u' => wpY_miss (fun r' v' => r' = r ∧ i_Rel (k + 3) u' v') v v1 v2) u v1 v2 := by
  rcases I with ⟨a, t, b, d, rfl, rfl⟩ | ⟨s, m, a, t, rfl, rfl, hs, hm, hok⟩
  · have K : i_Rel (k + 3) (3, 0, a, t) (3, 0, b, d) := Or.inl ⟨a, t, b, d, rfl, rfl⟩
    refine br_c (fun h0 => br_t h0 ⟨rfl, K⟩) (fun h0 => br_c (fun h1 => br_c (fun h2 => ?_) (fun h2 => br_c (fun h3 => ?_) (fun h3 => ?_))) (fun h1 => br_f h0 (br_f h1 ⟨rfl, K⟩)))
    · exact br_f h0 (br_t h1 (br_t h2 ⟨rfl, K⟩))
    · exact br_t rfl (br_f h0 (br_t h1 (br_f h2 (br_t h3 (br_t rfl ⟨rfl, K⟩)))))
    · exact br_f h0 (br_t h1 (br_f h2 (br_f h3 ⟨rfl, K⟩)))
  · have K : i_Rel (k + 3) (s, nI m, a, t) (s, nI m, a, t) := Or.inr ⟨s, m, a, t, rfl, rfl, hs, hm, hok⟩
    refine br_c (fun h0 => br_t h0 ⟨rfl, K⟩) (fun h0 => br_c (fun h1 => br_c (fun h2 => ?_) (fun h2 => br_c (fun h3 => ?_) (fun h3 => ?_))) (fun h1 => br_f h0 (br_f h1 ⟨rfl, K⟩)))
    · exact br_f h0 (br_t h1 (br_t h2 ⟨rfl, K⟩))
    · refine br_f hs ⟨m + 1, ?_⟩
      refine ic_xm hm h0 h1 ?_ ?_ ?_ m 0 (by omega) lt_0
      · intro j hj e
        exact ic_mhit hm hs h0 h1 h2 h3 hj e (fun i hi ei => hok.2 i j hi hj (ei.trans e.symm)) ⟨rfl, Or.inr ⟨s, m, a, _, rfl, rfl, hs, hm, hok⟩⟩
      · intro hn h4
        exact ic_mnew h4 hs h0 h1 h2 h3 hn ⟨rfl, Or.inr ⟨ic_st m, m + 1, _, _, rfl, rfl, ic_st3 m, by omega, ic_okN hok hn h0 h1⟩⟩
      · intro hn h4 a' t'
        exact ic_mfull h4 hs h0 h1 h2 h3 hn ⟨rfl, Or.inl ⟨a', t', a, t, rfl, rfl⟩⟩
    · exact br_f h0 (br_t h1 (br_f h2 (br_f h3 ⟨rfl, K⟩)))
theorem i_vc_state {k : Nat} {u : SX} {v : SY} (I : i_Rel k u v) (hk : k + 3 ≤ 1536) : wpX_state (fun r => wpY_state (fun r' => r' = r ∧ i_Rel (k + 3) u v) v) u := by
  have K : i_Rel (k + 3) u v := i_up I
  rcases I with ⟨a, t, b, d, rfl, rfl⟩ | ⟨s, m, a, t, rfl, rfl, hs, hm, hok⟩
  · exact ⟨rfl, K⟩
  · exact ⟨rfl, K⟩
theorem i_vc_size {k : Nat} {u : SX} {v : SY} (I : i_Rel k u v) (hk : k + 3 ≤ 1536) : wpX_size (fun r => wpY_size (fun r' => r' = r ∧ i_Rel (k + 3) u v) v) u := by
  have K : i_Rel (k + 3) u v := i_up I
  rcases I with ⟨a, t, b, d, rfl, rfl⟩ | ⟨s, m, a, t, rfl, rfl, hs, hm, hok⟩
  · exact ⟨rfl, K⟩
  · exact ⟨rfl, K⟩
end

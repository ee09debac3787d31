section
/-- the last exchange: the component writes p then the range's end, the reference the end then p; one array either way, also where p = h -/
theorem lm_end {a : Nat → Int32} {p h : Nat} {x : Int32} (e : a h = x) : upd (upd a h (a p)) p x = upd (upd a p (a h)) h (a p) := by
  subst e
  funext k
  by_cases h1 : k = p
  · subst h1
    by_cases h2 : k = h
    · subst h2; simp [upd]
    · simp [upd, h2]
  · by_cases h2 : k = h
    · subst h2; simp [upd, h1]
    · simp [upd, h1, h2]
/-- an exchange below h leaves the cell h -/
theorem lm_keep {a : Nat → Int32} {p j h : Nat} {x y : Int32} (hp : p < h) (hj : j < h) : upd (upd a p x) j y h = a h := by
  have h1 : ¬ h = p := by omega
  have h2 : ¬ h = j := by omega
  simp [upd, h1, h2]
/-- both loops in lockstep: from j, d rounds before the end h, with p at most j and the pivot x still in cell h, one answer r and one array w for both sides -/
theorem lm_loop (h : Nat) (hh : h ≤ 11) (x : Int32) : ∀ d j p : Nat, ∀ a : Nat → Int32, j + d = h → p ≤ j → a h = x →
    ∃ (r : Int32) (w : Nat → Int32), (∀ post : Int32 → SX → Prop, post r w → wX_split_30 post (nI h) x (d + 1) (nI p) (nI j) a) ∧
      (∀ post : Int32 → SY → Prop, post r w → wY_split_33 post (nI h) x (d + 1) (nI p) (nI j) a) := by
  have ch : (nI h).toNatClampNeg = h := nI_clamp (by omega)
  have vh : vp_in (nI h) 12 := vp_in_nI (by omega) (by omega)
  intro d
  induction d with
  | zero =>
    intro j p a hj hp ha
    have hle : nI h ≤ nI j := nI_le (by omega) (by omega)
    have cp : (nI p).toNatClampNeg = p := nI_clamp (by omega)
    have vp : vp_in (nI p) 12 := vp_in_nI (by omega) (by omega)
    refine ⟨nI p, upd (upd a p (a h)) h (a p), fun post hP => br_t hle ⟨vp, fun t et => ⟨vh, vp, fun b eb => ⟨vh, fun c ec => ?_⟩⟩⟩,
      fun post hP => br_t hle ⟨vp, vh, fun b eb => ⟨vp, fun c ec => ?_⟩⟩⟩
    · subst ec; subst eb; subst et
      rw [cp, ch]; exact hP
    · subst ec; subst eb
      rw [cp, ch, lm_end ha]; exact hP
  | succ d ih =>
    intro j p a hj hp ha
    have hle : ¬ nI h ≤ nI j := nI_ge (by omega) (by omega)
    have cp : (nI p).toNatClampNeg = p := nI_clamp (by omega)
    have cj : (nI j).toNatClampNeg = j := nI_clamp (by omega)
    have vp : vp_in (nI p) 12 := vp_in_nI (by omega) (by omega)
    have vj : vp_in (nI j) 12 := vp_in_nI (by omega) (by omega)
    by_cases z : x < a (nI j).toNatClampNeg
    · obtain ⟨r, w, hX, hY⟩ := ih (j + 1) p a (by omega) (by omega) ha
      refine ⟨r, w, fun post hP => br_f hle ⟨vj, br_t z fun y ey => ?_⟩, fun post hP => br_f hle ⟨vj, br_t z fun y ey => ?_⟩⟩
      · subst ey; rw [nI_1 j]; exact hX post hP
      · subst ey; rw [nI_1 j]; exact hY post hP
    · obtain ⟨r, w, hX, hY⟩ := ih (j + 1) (p + 1) (upd (upd a p (a j)) j (a p)) (by omega) (by omega) ((lm_keep (by omega) (by omega)).trans ha)
      refine ⟨r, w, fun post hP => br_f hle ⟨vj, br_f z ⟨vp, fun t et => ⟨vj, vp, fun b eb => ⟨vj, fun c ec => fun q eq => fun y ey => ?_⟩⟩⟩⟩,
        fun post hP => br_f hle ⟨vj, br_f z ⟨vp, fun t et => fun q eq => ⟨vj, vp, fun b eb => ⟨vj, fun c ec => fun y ey => ?_⟩⟩⟩⟩⟩
      · subst ey; subst eq; subst ec; subst eb; subst et
        rw [nI_1 p, nI_1 j, cp, cj]; exact hX post hP
      · subst ey; subst eq; subst ec; subst eb; subst et
        rw [nI_1 p, nI_1 j, cp, cj]; exact hY post hP
end
section
/-- the two objects hold the same twelve cells -/
def i_Rel (_ : Nat) (u : SX) (v : SY) : Prop := u = v
theorem i_up {k : Nat} {u : SX} {v : SY} (h : i_Rel k u v) : i_Rel (k + 3) u v := h
theorem i_vc0 : wpX_init (fun u => wpY_init (fun v => i_Rel 0 u v)) := rfl
/-- an int that is neither below 0 nor above 11 is a number up to 11 -/
theorem lm_of {x : Int32} (h0 : ¬ x < 0) (h : x ≤ 11) : ∃ j : Nat, j ≤ 11 ∧ x = nI j := nI_of2 (M := 11) (n := 11) (by decide) h0 h
theorem lm_in {x : Int32} (h0 : ¬ x < 0) (h : x ≤ 11) : vp_in x 12 := by
  obtain ⟨j, hj, rfl⟩ := lm_of h0 h
  exact vp_in_nI (by omega) (by omega)
theorem i_vc_put {k : Nat} {u : SX} {v : SY} (I : i_Rel k u v) (hk : k + 3 ≤ 1536) (v1 : Int32) (v2 : Int32) : wpX_put (fun r u' => wpY_put (fun r' v' => r' = r ∧ i_Rel (k + 3) u' v') v v1 v2) u v1 v2 := by
  cases I
  by_cases h0 : v1 < 0
  · exact br_t h0 (br_t h0 ⟨rfl, rfl⟩)
  · by_cases h : v1 ≤ 11
    · have hi : vp_in v1 12 := lm_in h0 h
      exact br_f h0 (br_t h ⟨hi, fun a ea => br_f h0 (br_t h ⟨hi, fun b eb => ⟨rfl, ea.trans eb.symm⟩⟩)⟩)
    · exact br_f h0 (br_f h (br_f h0 (br_f h ⟨rfl, rfl⟩)))
theorem i_vc_split {k : Nat} {u : SX} {v : SY} (I : i_Rel k u v) (hk : k + 3 ≤ 1536) (v1 : Int32) (v2 : Int32) : wpX_split (fun r u' => wpY_split (fun r' v' => r' = r ∧ i_Rel (k + 3) u' v') v v1 v2) u v1 v2 := by
  cases I
  by_cases h0 : v1 < 0
  · exact br_t h0 (br_t h0 ⟨rfl, rfl⟩)
  · by_cases h11 : 11 < v2
    · exact br_f h0 (br_t h11 (br_f h0 (br_t h11 ⟨rfl, rfl⟩)))
    · by_cases hle : v1 ≤ v2
      · have hM : v2 ≤ 11 := Int32.not_lt.mp h11
        have h2 : ¬ v2 < 0 := Int32.not_lt.mpr (Int32.le_trans (Int32.not_lt.mp h0) hle)
        obtain ⟨j, hj, rfl⟩ := lm_of h2 hM
        obtain ⟨i, hi, rfl⟩ := nI_of h0
        have hij : i ≤ j := (nI_leI hi (by omega)).mp hle
        have cj : (nI j).toNatClampNeg = j := nI_clamp (by omega)
        have vj : vp_in (nI j) 12 := lm_in h2 hM
        obtain ⟨r, w, hX, hY⟩ := lm_loop j hj (u j) (j - i) i i u (by omega) (Nat.le_refl i) rfl
        refine br_f h0 (br_f h11 (br_t hle ⟨vj, fun x ex => ⟨j - i + 1, ?_⟩⟩))
        rw [ex, cj]
        refine hX _ (br_f h0 (br_f h11 (br_t hle ⟨vj, fun y ey => ⟨j - i + 1, ?_⟩⟩)))
        rw [ey, cj]
        exact hY _ ⟨rfl, rfl⟩
      · exact br_f h0 (br_f h11 (br_f hle (br_f h0 (br_f h11 (br_f hle ⟨rfl, rfl⟩)))))
theorem i_vc_at {k : Nat} {u : SX} {v : SY} (I : i_Rel k u v) (hk : k + 3 ≤ 1536) (v1 : Int32) : wpX_at (fun r => wpY_at (fun r' => r' = r ∧ i_Rel (k + 3) u v) v v1) u v1 := by
  cases I
  by_cases h0 : v1 < 0
  · exact br_t h0 (br_t h0 ⟨rfl, rfl⟩)
  · by_cases h : v1 ≤ 11
    · have hi : vp_in v1 12 := lm_in h0 h
      exact br_f h0 (br_t h ⟨hi, br_f h0 (br_t h ⟨hi, ⟨rfl, rfl⟩⟩)⟩)
    · exact br_f h0 (br_f h (br_f h0 (br_f h ⟨rfl, rfl⟩)))
end

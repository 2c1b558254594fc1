/-! ===== THE ABSTRACT OPERATIONS KEEP WHAT IS KEPT ===== -/
theorem ps_set {α : Type} (g : α → Nat) : ∀ (L : List α) (m : Nat) (x y : α), L[m]? = some x → ((L.set m y).map g).sum + g x = (L.map g).sum + g y
  | [], _, _, _, h => by simp at h
  | a :: L, 0, x, y, h => by
    have : a = x := by simpa using h
    subst this
    simp
    omega
  | a :: L, m + 1, x, y, h => by
    have ih := ps_set g L m x y (by simpa using h)
    show g a + ((L.set m y).map g).sum + g x = g a + (L.map g).sum + g y
    omega
section AK
variable {A : pa_A} {c : Nat}
theorem pa_frog_eq {f : Nat} (h : f < A.1.length) : A.1[f]? = some (pa_frog A f) := by
  unfold pa_frog
  rw [List.getElem?_eq_getElem h]; rfl
theorem pa_mot_eq {m : Nat} (h : m < A.2.2.1.length) : A.2.2.1[m]? = some (pa_mot A m) := by
  unfold pa_mot
  rw [List.getElem?_eq_getElem h]; rfl
theorem pa_ok.fr (ho : pa_ok A c) {f : Nat} (h : f < A.1.length) : pa_okF A c (pa_frog A f) := ho.2.2.2.1 _ (List.mem_of_getElem? (pa_frog_eq h))
theorem pa_ok.mo (ho : pa_ok A c) {m : Nat} (h : m < A.2.2.1.length) : pa_okM A c (pa_mot A m) := ho.2.2.2.2.2.1 _ (List.mem_of_getElem? (pa_mot_eq h))
theorem pa_okF.mono {A' : pa_A} {c' : Nat} {x : pa_F} (h : pa_okF A c x) (h1 : A.2.1.length ≤ A'.2.1.length) (h2 : c ≤ c') : pa_okF A' c' x := by
  obtain ⟨a1, a2, a3, a4, a5⟩ := h
  exact ⟨a1, a2, a3, by omega, by omega⟩
theorem pa_okM.mono {A' : pa_A} {c' : Nat} {x : pa_Mo} (h : pa_okM A c x) (h1 : A.1.length ≤ A'.1.length) (h2 : c ≤ c') : pa_okM A' c' x := by
  obtain ⟨a1, a2, a3, a4, a5, a6, a7, a8, a9, a10, a11, a12⟩ := h
  exact ⟨a1, a2, a3, a4, Nat.lt_of_lt_of_le a5 (Nat.pow_le_pow_right (by decide) h1), by omega, by omega, fun r hr => ⟨by have := (a8 r hr).1; omega, (a8 r hr).2⟩, a9, a10, fun k hk => ⟨by have := (a11 k hk).1; omega, (a11 k hk).2⟩, a12⟩
theorem pa_ok.mono {c' : Nat} (ho : pa_ok A c) (h : c ≤ c') : pa_ok A c' := by
  obtain ⟨a1, a2, a3, a4, a5, a6, a7, a8, a9, a10, a11⟩ := ho
  exact ⟨a1, a2, a3, fun x hx => (a4 x hx).mono (Nat.le_refl _) h, a5, fun x hx => (a6 x hx).mono (Nat.le_refl _) h, a7, by omega, by omega, a10, by omega⟩
theorem pa_ok_empty : pa_ok ([], [], [], 0, 0) 0 := by
  refine ⟨by decide, by decide, by decide, fun x hx => by simp at hx, fun x hx => by simp at hx, fun x hx => by simp at hx, fun p => by simp [pa_on], by decide, by decide, by decide, by decide⟩
theorem pa_on_set {f p : Nat} {y : pa_F} (hf : f < A.1.length) : pa_on (pa_setF A f y) p + (if (pa_frog A f).2.2.1 = p + 1 then 1 else 0) = pa_on A p + (if y.2.2.1 = p + 1 then 1 else 0) := ps_set (fun x : pa_F => if x.2.2.1 = p + 1 then 1 else 0) A.1 f _ y (pa_frog_eq hf)
theorem pa_ok.setF (ho : pa_ok A c) {f : Nat} {y : pa_F} (hf : f < A.1.length) (hy : pa_okF A c y) (hon : ∀ p, pa_on (pa_setF A f y) p ≤ A.2.1[p]?.getD 0) : pa_ok (pa_setF A f y) c := by
  obtain ⟨a1, a2, a3, a4, a5, a6, a7, a8, a9, a10, a11⟩ := ho
  refine ⟨by simpa [pa_setF] using a1, a2, a3, fun x hx => ?_, a5, fun x hx => (a6 x hx).mono (by simp [pa_setF]) (Nat.le_refl _), hon, a8, a9, a10, by simpa [pa_setF, pa_phi] using a11⟩
  rcases List.mem_or_eq_of_mem_set hx with h | rfl
  · exact (a4 x h).mono (Nat.le_refl _) (Nat.le_refl _)
  · exact hy.mono (Nat.le_refl _) (Nat.le_refl _)
theorem pa_ok.setM (ho : pa_ok A c) {c' m : Nat} {y : pa_Mo} (hm : m < A.2.2.1.length) (hy : pa_okM A c' y) (ht : y.1.2.2.2.2.2 = (pa_mot A m).1.2.2.2.2.2) (hc : c ≤ c') (hl : y.2.1.length + c ≤ (pa_mot A m).2.1.length + c') : pa_ok (pa_setM A m y) c' := by
  obtain ⟨a1, a2, a3, a4, a5, a6, a7, a8, a9, a10, a11⟩ := ho
  have e1 := ps_set (fun x : pa_Mo => x.1.2.2.2.2.2) A.2.2.1 m _ y (pa_mot_eq hm)
  have e2 := ps_set (fun x : pa_Mo => x.2.1.length) A.2.2.1 m _ y (pa_mot_eq hm)
  refine ⟨a1, a2, by simpa [pa_setM] using a3, fun x hx => (a4 x hx).mono (Nat.le_refl _) hc, a5, fun x hx => ?_, a7, by show A.2.2.2.1 ≤ c'; omega, by show A.2.2.2.2 ≤ c'; omega, ?_, ?_⟩
  · rcases List.mem_or_eq_of_mem_set hx with h | rfl
    · exact (a6 x h).mono (Nat.le_refl _) hc
    · exact hy.mono (Nat.le_refl _) (Nat.le_refl _)
  · show A.2.2.2.1 = ((A.2.2.1.set m y).map fun x => x.1.2.2.2.2.2).sum
    omega
  · show A.1.length + (A.2.2.1.set m y).length + ((A.2.2.1.set m y).map fun x => x.2.1.length).sum ≤ c'
    have a11' : A.1.length + A.2.2.1.length + (A.2.2.1.map fun x => x.2.1.length).sum ≤ c := a11
    rw [List.length_set]
    omega
theorem pa_addFrog_ok (ho : pa_ok A c) {x y : Int32} {v : Nat} {A' : pa_A} (h : pa_addFrog x y A = .inl (v, A')) : pa_ok A' (c + 1) := by
  unfold pa_addFrog at h
  split at h
  · cases h
  · next p hp =>
    split at h
    · cases h
    · next w hw =>
      split at h
      · cases h
      · next h3 =>
        cases h
        obtain ⟨-, hp1, -⟩ := pd_some hp
        obtain ⟨hw1, hw2, -⟩ := pd_some hw
        obtain ⟨a1, a2, a3, a4, a5, a6, a7, a8, a9, a10, a11⟩ := ho
        refine ⟨by simp; omega, a2, a3, fun x hx => ?_, a5, fun x hx => (a6 x hx).mono (by simp) (by omega), fun p => ?_, by show A.2.2.2.1 ≤ _; omega, by show A.2.2.2.2 ≤ _; omega, a10, ?_⟩
        · rcases List.mem_append.mp hx with h | h
          · exact (a4 x h).mono (Nat.le_refl _) (by omega)
          · have : x = (p, w, 0, 0) := by simpa using h
            subst this
            exact ⟨hp1, hw1, hw2, Nat.zero_le _, Nat.zero_le _⟩
        · have := a7 p
          unfold pa_on at this ⊢
          simpa using this
        · have a11' : A.1.length + A.2.2.1.length + (A.2.2.1.map fun x => x.2.1.length).sum ≤ c := a11
          show (A.1 ++ [_]).length + A.2.2.1.length + (A.2.2.1.map fun x => x.2.1.length).sum ≤ c + 1
          rw [List.length_append, List.length_singleton]
          omega
theorem pa_addPad_ok (ho : pa_ok A c) {x : Int32} {v : Nat} {A' : pa_A} (h : pa_addPad x A = .inl (v, A')) : pa_ok A' (c + 1) := by
  unfold pa_addPad at h
  split at h
  · cases h
  · next w hw =>
    split at h
    · cases h
    · next h3 =>
      cases h
      obtain ⟨hw1, hw2, -⟩ := pd_some hw
      obtain ⟨a1, a2, a3, a4, a5, a6, a7, a8, a9, a10, a11⟩ := ho
      refine ⟨a1, by simp; omega, a3, fun x hx => (a4 x hx).mono (by simp) (by omega), fun r hr => ?_, fun x hx => (a6 x hx).mono (Nat.le_refl _) (by omega), fun p => ?_, by show A.2.2.2.1 ≤ _; omega, by show A.2.2.2.2 ≤ _; omega, a10, by show pa_phi A ≤ _; omega⟩
      · rcases List.mem_append.mp hr with h | h
        · exact a5 r h
        · have : r = w := by simpa using h
          subst this
          exact ⟨hw1, hw2⟩
      · have := a7 p
        refine Nat.le_trans this ?_
        show A.2.1[p]?.getD 0 ≤ (A.2.1 ++ [w])[p]?.getD 0
        rcases Nat.lt_or_ge p A.2.1.length with h | h
        · rw [List.getElem?_append_left h]
          exact Nat.le_refl _
        · rw [List.getElem?_eq_none h]
          exact Nat.zero_le _
theorem pa_hop_ok (ho : pa_ok A c) {x y : Int32} {v : Nat} {A' : pa_A} (h : pa_hop x y A = .inl (v, A')) : pa_ok A' (c + 1) := by
  unfold pa_hop at h
  split at h
  · cases h
  · next f hf =>
    split at h
    · cases h
    · next p hp =>
      simp only at h
      split at h
      · cases h
      · next h3 =>
        cases h
        obtain ⟨-, hf1, -⟩ := pd_some hf
        obtain ⟨-, hp1, -⟩ := pd_some hp
        obtain ⟨b1, b2, b3, b4, b5⟩ := ho.fr hf1
        refine pa_ok.mono (c := c) (ho.setF hf1 ⟨b1, b2, b3, by show p + 1 ≤ _; omega, b5⟩ fun q => ?_) (by omega)
        have e := pa_on_set (p := q) (y := ((pa_frog A f).1, (pa_frog A f).2.1, p + 1, (pa_frog A f).2.2.2)) hf1
        have hq := ho.2.2.2.2.2.2.1 q
        simp only at e
        by_cases hqp : q = p
        · subst hqp
          rw [if_pos rfl] at e
          have : ¬ pa_on A q = A.2.1[q]?.getD 0 := fun h => h3 (.inr h)
          split at e <;> omega
        · rw [if_neg (show ¬ p + 1 = q + 1 by omega)] at e
          split at e <;> omega
theorem pa_dive_ok (ho : pa_ok A c) {x : Int32} {v : Nat} {A' : pa_A} (h : pa_dive x A = .inl (v, A')) : pa_ok A' (c + 1) := by
  unfold pa_dive at h
  split at h
  · cases h
  · next f hf =>
    split at h
    · cases h
    · next h3 =>
      cases h
      obtain ⟨-, hf1, -⟩ := pd_some hf
      obtain ⟨b1, b2, b3, b4, b5⟩ := ho.fr hf1
      refine pa_ok.mono (c := c) (ho.setF hf1 ⟨b1, b2, b3, Nat.zero_le _, b5⟩ fun q => ?_) (by omega)
      have e := pa_on_set (p := q) (y := ((pa_frog A f).1, (pa_frog A f).2.1, 0, (pa_frog A f).2.2.2)) hf1
      have hq := ho.2.2.2.2.2.2.1 q
      simp only at e
      rw [if_neg (show ¬ 0 = q + 1 by omega)] at e
      split at e <;> omega
theorem pa_addMotion_ok (ho : pa_ok A c) {x : Int32} {v : Nat} {A' : pa_A} (h : pa_addMotion x A = .inl (v, A')) : pa_ok A' (c + 1) := by
  unfold pa_addMotion at h
  split at h
  · cases h
  · next w hw =>
    split at h
    · cases h
    · next h3 =>
      cases h
      obtain ⟨hw1, hw2, -⟩ := pd_some hw
      obtain ⟨a1, a2, a3, a4, a5, a6, a7, a8, a9, a10, a11⟩ := ho
      refine ⟨a1, a2, by simp; omega, fun x hx => (a4 x hx).mono (Nat.le_refl _) (by omega), a5, fun x hx => ?_, a7, by show A.2.2.2.1 ≤ _; omega, by show A.2.2.2.2 ≤ _; omega, ?_, ?_⟩
      · rcases List.mem_append.mp hx with h | h
        · exact (a6 x h).mono (Nat.le_refl _) (by omega)
        · have : x = ((w, 0, 0, 0, 0, 0), [], []) := by simpa using h
          subst this
          exact ⟨hw1, hw2, Nat.zero_le _, Nat.zero_le _, Nat.two_pow_pos _, Nat.zero_le _, Nat.zero_le _, fun r hr => by simp at hr, List.nodup_nil, List.Pairwise.nil, fun r hr => by simp at hr, List.nodup_nil⟩
      · show A.2.2.2.1 = ((A.2.2.1 ++ [_]).map _).sum
        rw [a10]; simp
      · have a11' : A.1.length + A.2.2.1.length + (A.2.2.1.map fun x => x.2.1.length).sum ≤ c := a11
        show A.1.length + (A.2.2.1 ++ [_]).length + ((A.2.2.1 ++ [_]).map fun x : pa_Mo => x.2.1.length).sum ≤ c + 1
        simp
        omega
/-- both numbers are good -/
theorem pa_both_inl {x y : Int32} {K : Nat → Nat → pa_O} {q : Nat × pa_A} (h : pa_both x y A K = .inl q) : ∃ m f, m < A.2.2.1.length ∧ f < A.1.length ∧ K m f = .inl q := by
  unfold pa_both at h
  split at h
  · cases h
  · next m hm =>
    split at h
    · cases h
    · next f hf => exact ⟨m, f, (pd_some hm).2.1, (pd_some hf).2.1, h⟩
theorem pa_signUp_ok (ho : pa_ok A c) {x y : Int32} {v : Nat} {A' : pa_A} (h : pa_signUp x y A = .inl (v, A')) : pa_ok A' (c + 1) := by
  obtain ⟨m, f, hm, hf, h⟩ := pa_both_inl h
  simp only at h
  split at h
  · cases h
  · split at h
    · cases h
    · split at h
      · cases h
      · next h3 =>
        cases h
        obtain ⟨a1, a2, a3, a4, a5, a6, a7, a8, a9, a10, a11, a12⟩ := ho.mo hm
        have hnew : f ∉ (pa_mot A m).2.1.map (·.1) := by
          intro hmem
          obtain ⟨r, hr, hrf⟩ := List.mem_map.mp hmem
          apply h3
          unfold pa_place
          rw [List.findIdx?_isSome, List.any_eq_true]
          exact ⟨r, hr, by simpa using hrf⟩
        refine ho.setM hm ⟨a1, a2, a3, a4, a5, by dsimp only; omega, by dsimp only; omega, fun r hr => ?_, ?_, ?_, a11, a12⟩ rfl (by omega) (by simp; omega)
        · rcases List.mem_append.mp hr with h | h
          · have := a8 r h
            exact ⟨this.1, by show r.2 < _ + 1; omega⟩
          · have : r = (f, (pa_mot A m).1.2.2.2.2.1) := by simpa using h
            subst this
            exact ⟨hf, Nat.lt_succ_self _⟩
        · show (((pa_mot A m).2.1 ++ [_]).map _).Nodup
          rw [List.map_append, List.nodup_append]
          refine ⟨a9, by simp, fun a ha b hb => ?_⟩
          have : b = f := by simpa using hb
          subst this
          exact fun he => hnew (he ▸ ha)
        · show ((pa_mot A m).2.1 ++ [_]).Pairwise _
          rw [List.pairwise_append]
          refine ⟨a10, by simp, fun a ha b hb => ?_⟩
          have : b = (f, (pa_mot A m).1.2.2.2.2.1) := by simpa using hb
          subst this
          exact (a8 a ha).2
theorem pa_okM.erase {x : pa_Mo} (h : pa_okM A c x) (k : Nat) : pa_okM A c (x.1, x.2.1.eraseIdx k, x.2.2) := by
  obtain ⟨a1, a2, a3, a4, a5, a6, a7, a8, a9, a10, a11, a12⟩ := h
  have hs : (x.2.1.eraseIdx k).Sublist x.2.1 := List.eraseIdx_sublist _ _
  exact ⟨a1, a2, a3, a4, a5, a6, a7, fun r hr => a8 r (hs.mem hr), (hs.map _).nodup a9, a10.sublist hs, a11, a12⟩
theorem pa_strike_ok (ho : pa_ok A c) {x y : Int32} {v : Nat} {A' : pa_A} (h : pa_strike x y A = .inl (v, A')) : pa_ok A' (c + 1) := by
  obtain ⟨m, f, hm, hf, h⟩ := pa_both_inl h
  simp only at h
  split at h
  · cases h
  · next k hk =>
    cases h
    refine pa_ok.mono (c := c) (ho.setM hm ((ho.mo hm).erase k) rfl (Nat.le_refl _) ?_) (by omega)
    have := (List.eraseIdx_sublist (pa_mot A m).2.1 k).length_le
    dsimp only
    omega
theorem pa_ranked_lt {S : List Nat} {r k : Nat} (h : pa_ranked S r = some k) : k < S.length := by
  have := List.mem_of_find?_eq_some h
  simpa using this
theorem pa_call_ok (ho : pa_ok A c) {x : Int32} {v : Nat} {A' : pa_A} (h : pa_call x A = .inl (v, A')) : pa_ok A' (c + 1) := by
  unfold pa_call at h
  split at h
  · cases h
  · next m hm' =>
    obtain ⟨-, hm, -⟩ := pd_some hm'
    simp only at h
    split at h
    · cases h
    · next k hk =>
      have hlen := (List.eraseIdx_sublist (pa_mot A m).2.1 k).length_le
      have o1 : pa_ok (pa_setM A m ((pa_mot A m).1, (pa_mot A m).2.1.eraseIdx k, (pa_mot A m).2.2)) c := ho.setM hm ((ho.mo hm).erase k) rfl (Nat.le_refl _) (by dsimp only; omega)
      split at h
      · cases h
        obtain ⟨a1, a2, a3, a4, a5, a6, a7, a8, a9, a10, a11⟩ := o1.mono (Nat.le_succ c)
        refine ⟨a1, a2, a3, a4, a5, a6, a7, a8, ?_, a10, a11⟩
        have := ho.2.2.2.2.2.2.2.2.1
        show A.2.2.2.2 + 1 ≤ c + 1
        omega
      · next h3 =>
        cases h
        have hk' : k < (pa_mot A m).2.1.length := by have := pa_ranked_lt hk; simpa [pa_sk] using this
        have hr := List.getElem?_eq_getElem hk'
        have hf : ((pa_mot A m).2.1[k]?.getD (0, 0)).1 < A.1.length := by
          rw [hr]
          exact ((ho.mo hm).2.2.2.2.2.2.2.1 _ (List.getElem_mem hk')).1
        have hy := ho.fr hf
        have hM := (ho.mo hm).erase k
        generalize ((pa_mot A m).2.1[k]?.getD (0, 0)).1 = f at hf hy h3 ⊢
        have hon : ∀ p, pa_on (pa_setF A f ((pa_frog A f).1, (pa_frog A f).2.1, (pa_frog A f).2.2.1, (pa_frog A f).2.2.2 + 1)) p = pa_on A p := fun p => by
          have := pa_on_set (p := p) (y := ((pa_frog A f).1, (pa_frog A f).2.1, (pa_frog A f).2.2.1, (pa_frog A f).2.2.2 + 1)) hf
          simp only at this
          omega
        obtain ⟨a1, a2, a3, a4, a5, a6, a7, a8, a9, a10, a11⟩ := ho
        let y' : pa_Mo := (((pa_mot A m).1.1, (pa_mot A m).1.2.1, (pa_mot A m).1.2.2.1, (pa_mot A m).1.2.2.2.1, (pa_mot A m).1.2.2.2.2.1, (pa_mot A m).1.2.2.2.2.2 + 1), (pa_mot A m).2.1.eraseIdx k, (pa_mot A m).2.2)
        have e1 : ((A.2.2.1.set m y').map fun x : pa_Mo => x.1.2.2.2.2.2).sum + (pa_mot A m).1.2.2.2.2.2 = (A.2.2.1.map fun x : pa_Mo => x.1.2.2.2.2.2).sum + ((pa_mot A m).1.2.2.2.2.2 + 1) := ps_set (fun x : pa_Mo => x.1.2.2.2.2.2) A.2.2.1 m _ y' (pa_mot_eq hm)
        have e2 : ((A.2.2.1.set m y').map fun x : pa_Mo => x.2.1.length).sum + (pa_mot A m).2.1.length = (A.2.2.1.map fun x : pa_Mo => x.2.1.length).sum + ((pa_mot A m).2.1.eraseIdx k).length := ps_set (fun x : pa_Mo => x.2.1.length) A.2.2.1 m _ y' (pa_mot_eq hm)
        have a11' : A.1.length + A.2.2.1.length + (A.2.2.1.map fun x => x.2.1.length).sum ≤ c := a11
        refine ⟨by simpa using a1, a2, by simpa using a3, fun x hx => ?_, a5, fun x hx => ?_, fun p => ?_, by show A.2.2.2.1 + 1 ≤ c + 1; omega, by show A.2.2.2.2 ≤ c + 1; omega, ?_, ?_⟩
        · rcases List.mem_or_eq_of_mem_set hx with h | rfl
          · exact (a4 x h).mono (Nat.le_refl _) (by omega)
          · obtain ⟨b1, b2, b3, b4, b5⟩ := hy
            exact ⟨b1, b2, b3, b4, Nat.succ_le_succ b5⟩
        · rcases List.mem_or_eq_of_mem_set hx with h | rfl
          · exact (a6 x h).mono (by simp) (by omega)
          · obtain ⟨b1, b2, b3, b4, b5, b6, b7, b8, b9, b10, b11, b12⟩ := hM.mono (A' := (A.1.set f ((pa_frog A f).1, (pa_frog A f).2.1, (pa_frog A f).2.2.1, (pa_frog A f).2.2.2 + 1), A.2)) (by simp) (Nat.le_succ c)
            exact ⟨b1, b2, b3, b4, b5, b6, by have : (pa_mot A m).1.2.2.2.2.2 ≤ c := (hM).2.2.2.2.2.2.1; show _ + 1 ≤ c + 1; omega, b8, b9, b10, b11, b12⟩
        · exact Nat.le_trans (Nat.le_of_eq (hon p)) (a7 p)
        · show A.2.2.2.1 + 1 = ((A.2.2.1.set m y').map fun x => x.1.2.2.2.2.2).sum
          omega
        · show (A.1.set f _).length + (A.2.2.1.set m y').length + ((A.2.2.1.set m y').map fun x => x.2.1.length).sum ≤ c + 1
          rw [List.length_set, List.length_set]
          omega
theorem pa_back_ok (ho : pa_ok A c) {x y : Int32} {v : Nat} {A' : pa_A} (h : pa_back x y A = .inl (v, A')) : pa_ok A' (c + 1) := by
  obtain ⟨m, f, hm, hf, h⟩ := pa_both_inl h
  simp only at h
  split at h
  · cases h
  · split at h
    · cases h
    · split at h
      · cases h
      · cases h
        obtain ⟨a1, a2, a3, a4, a5, a6, a7, a8, a9, a10, a11, a12⟩ := ho.mo hm
        refine pa_ok.mono (c := c) (ho.setM hm ⟨a1, a2, by show (if _ then 1 else 0) ≤ 1; split <;> omega, a4, Nat.or_lt_two_pow a5 (Nat.pow_lt_pow_right (by decide) hf), a6, a7, a8, a9, a10, a11, a12⟩ rfl (Nat.le_refl _) (Nat.le_refl _)) (by omega)
theorem pa_croak_ok (ho : pa_ok A c) {x y z : Int32} {s v : Nat} (hs : s ≤ 1) {A' : pa_A} (h : pa_croak x y z s A = .inl (v, A')) : pa_ok A' (c + 1) := by
  obtain ⟨m, f, hm, hf, h⟩ := pa_both_inl h
  simp only at h
  split at h
  · cases h
  · next l hl =>
    split at h
    · cases h
    · split at h
      · cases h
      · split at h
        · cases h
        · next h3 =>
          cases h
          obtain ⟨hl1, hl2, -⟩ := pd_some hl
          obtain ⟨a1, a2, a3, a4, a5, a6, a7, a8, a9, a10, a11, a12⟩ := ho.mo hm
          have hnew : f ∉ (pa_mot A m).2.2.map (·.1) := by
            intro hmem
            obtain ⟨r, hr, hrf⟩ := List.mem_map.mp hmem
            apply h3
            right
            unfold pa_croaked
            rw [List.any_eq_true]
            exact ⟨r, hr, by simpa using hrf⟩
          refine pa_ok.mono (c := c) (ho.setM hm ⟨a1, a2, a3, a4, a5, a6, a7, a8, a9, a10, fun r hr => ?_, ?_⟩ rfl (Nat.le_refl _) (Nat.le_refl _)) (by omega)
          · rcases List.mem_append.mp hr with h | h
            · exact a11 r h
            · have : r = (f, l, s) := by simpa using h
              subst this
              exact ⟨hf, hl1, hl2, hs⟩
          · show (((pa_mot A m).2.2 ++ [_]).map _).Nodup
            rw [List.map_append, List.nodup_append]
            refine ⟨a12, by simp, fun a ha b hb => ?_⟩
            have : b = f := by simpa using hb
            subst this
            exact fun he => hnew (he ▸ ha)
theorem pa_decide_ok (ho : pa_ok A c) {x : Int32} {v : Nat} {A' : pa_A} (h : pa_decide x A = .inl (v, A')) : pa_ok A' (c + 1) := by
  unfold pa_decide at h
  split at h
  · cases h
  · next m hm' =>
    obtain ⟨-, hm, -⟩ := pd_some hm'
    simp only at h
    split at h
    · cases h
    · cases h
      obtain ⟨a1, a2, a3, a4, a5, a6, a7, a8, a9, a10, a11, a12⟩ := ho.mo hm
      exact pa_ok.mono (c := c) (ho.setM hm ⟨a1, a2, a3, by show 2 - _ ≤ 2; omega, a5, a6, a7, a8, a9, a10, a11, a12⟩ rfl (Nat.le_refl _) (Nat.le_refl _)) (by omega)
end AK

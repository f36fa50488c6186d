set_option maxRecDepth 100000
/-! THE REFERENCE's CALLS: play -/
theorem play_M {σ : MS} {S : St} (h : MR σ S) (ho : okSt S) (i : Int32) : Ok (F_play i σ) fun o => ∃ S', q_play i S o.1 S' ∧ MR o.2 S' := by
  have hMN := MN_gt
  obtain ⟨⟨b, hR⟩, hP, h54, h67, a5, a6, a7, a8, a9, -, a11⟩ := id h
  unfold F_play
  refine Ok.bd (isInput_L (hR.mb ho.2.1) i) ?_
  unfold q_play
  cases hi : ixo i (rN (zR S)) with
  | none =>
    rw [b32_none rfl]
    exact Ok.tt (by decide) (Ok.done ⟨S, ⟨rfl, rfl⟩, h⟩)
  | some k =>
    obtain ⟨rfl, hk⟩ := ixo_some hi
    rw [b32_some rfl]
    refine Ok.ff (by decide) ?_
    by_cases q : 200 < (pths (zR S)).length
    · simp only [ifp q]
      rw [(hP.1 q).1]
      exact Ok.ff (by decide) (Ok.done ⟨S, ⟨rfl, rfl⟩, h⟩)
    simp only [ifn q]
    rw [(hP.2 (by omega)).1]
    refine Ok.tt (by decide) (Ok.lt _ rfl (Ok.lt _ rfl (Ok.lt _ rfl (Ok.lt _ rfl (Ok.lt _ rfl ?_)))))
    generalize hσ1 : wI (wI (wI (wI (wI σ 77 1) 73 (-1)) 74 0) 75 0) 76 0 = σ1
    have f1 : Fr [77, 73, 74, 75, 76] [] [] σ σ1 := hσ1 ▸ ((((Fr.wI σ 77 _).tr (Fr.wI _ 73 _) (js := [77, 73]) (bs := []) (ms := []) (by simp) (by simp) (by simp)).tr (Fr.wI _ 74 _) (js := [77, 73, 74]) (bs := []) (ms := []) (by simp <;> omega) (by simp) (by simp)).tr (Fr.wI _ 75 _) (js := [77, 73, 74, 75]) (bs := []) (ms := []) (by simp <;> omega) (by simp) (by simp)).tr (Fr.wI _ 76 _) (by simp <;> omega) (by simp) (by simp)
    have m77 : mI σ1 77 = 1 := by rw [← hσ1]; simp (disch := omega) only [wI_ne, wI_same]
    have m73 : mI σ1 73 = -1 := by rw [← hσ1]; simp (disch := omega) only [wI_ne, wI_same]
    have m74 : mI σ1 74 = n32 0 := by rw [← hσ1]; simp (disch := omega) only [wI_ne, wI_same]; rfl
    have m75 : mI σ1 75 = n32 0 := by rw [← hσ1]; simp (disch := omega) only [wI_ne, wI_same]; rfl
    have m76 : mI σ1 76 = n32 0 := by rw [← hσ1]; simp (disch := omega) only [wI_ne, wI_same]; rfl
    have hG0 : MG9 σ1 (pl0 (zW S)) := ⟨m73, m74, m75, m76, by rw [f1.1 72 (by simp)]; exact a9, fun j c hj => by cases hj⟩
    have hX := ho.2.1.2.2.1.1
    obtain ⟨τ, r, e, f2, g1, g2, g3⟩ := playOn_L (b := b) (i := k) ho.2.1 hk (by omega) ((rX (zR S)).length + 1) 0 (pl0 (zW S)) σ1 0 MN (by omega) (Nat.zero_le _) (by have := hX.1; omega) (hR.fr f1 (by simp) (by simp)) (hP.fr f1 (by simp) (by simp) (by simp) (by simp) (by simp)) hG0
      ⟨Nat.le_refl _, by show 0 < 2 ^ 0; decide, by show 0 ≤ 8; omega, fun p => by show 0 ≤ 2; omega, Nat.zero_le _, fun c hc => by cases hc⟩ ⟨by omega, fun p hp => by show (0 >>> (2 * p)) &&& 3 = 0; simp⟩
    refine ⟨(r, τ), e, o_playS S (playS S k), ⟨g3, rfl⟩, ?_⟩
    obtain ⟨k1, k2, k3, k4, k5, k6⟩ := g1
    have f : Fr [77, 72, 73, 74, 75, 76] [41, 42, 78] [] σ τ := f1.tr f2 (by simp <;> omega) (by simp) (by simp)
    refine ⟨⟨b, hR.fr f (by simp) (by intro j x y; simp; omega)⟩, hP.fr f (by simp) (by simp) (by intro j x y; simp; omega) (by simp) (by simp), ?_, ?_, ⟨by rw [f.1 2 (by simp)]; exact a5.1, by rw [f.2.1 0 (by simp)]; exact a5.2⟩, ⟨by rw [f.1 4 (by simp)]; exact a6.1, by rw [f.1 5 (by simp)]; exact a6.2⟩, ⟨by rw [f.1 82 (by simp)]; exact a7.1, a7.2.eq (f.2.1 79 (by simp)) (f.2.1 80 (by simp)) (f.2.1 81 (by simp))⟩, by rw [f.1 83 (by simp)]; exact a8, k5, ⟨?_, fun _ => ⟨k1, k2, k3, k4⟩⟩, fun j hj => (a11 j hj).eq fun q x y => f.2.1 q (by simp; omega)⟩
    · obtain ⟨e, x, y⟩ := h54; exact ⟨e, x, by rw [f.1 54 (by simp)]; exact y⟩
    · obtain ⟨⟨s, x⟩, w', y, z⟩ := h67; exact ⟨⟨s, by rw [f.1 67 (by simp)]; exact x⟩, w', y, by rw [f.1 52 (by simp)]; exact z⟩
    · rw [f2.1 77 (by simp), m77]; rfl

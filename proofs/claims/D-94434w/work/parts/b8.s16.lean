set_option maxRecDepth 100000
/-! THE MACHINE: its state stays as it may be; its answers are one -/
theorem okT.mono {R : Rc} {a b : Nat} {t : Tl} (h : okT R a t) (hab : a ≤ b) : okT R b t := ⟨h.1, Nat.le_trans h.2.1 hab, fun u hu => Nat.le_trans (h.2.2 u hu) hab⟩
theorem ok_feed {S : St} (h : okSt S) (a b c d e : Int32) : okSt (o_feed a b c d e S).2 := by
  unfold o_feed
  by_cases q : 1600 < (zTp S).length + 20
  · rw [ifp q]; exact h
  · rw [ifn q]
    refine ⟨?_, h.2⟩
    show (zTp S ++ (byts a ++ byts b ++ byts c ++ byts d ++ byts e)).length ≤ 1600
    have : (byts a ++ byts b ++ byts c ++ byts d ++ byts e).length = 20 := rfl
    rw [List.length_append, this]; omega
theorem ok_end {S : St} (h : okSt S) (n : Int32) : okSt (o_end n S).2 := by
  unfold o_end
  cases ixo n ((zTp S).length + 1) with
  | none => exact h
  | some k =>
    refine ⟨?_, h.2⟩
    show ((zTp S).take k).length ≤ 1600
    have := h.1
    rw [List.length_take]; omega
theorem ok_tell {S : St} (h : okSt S) (p : Int32) : okSt (o_tell p S).2 := by
  unfold o_tell
  by_cases q : 200 < (pths (zR S)).length
  · rw [ifp q]; exact h
  · rw [ifn q]
    cases hk : ixo p (pths (zR S)).length with
    | none => exact h
    | some k =>
      simp only
      obtain ⟨h1, h2, h3, h4, h5, h6, h7, h8, h9, h10⟩ := h
      by_cases q2 : (zL S).length = 20
      · rw [ifp q2]; exact ⟨h1, h2, h3, h4, h5, h6, h7, h8, h9, h10⟩
      · rw [ifn q2]
        refine ⟨h1, h2, ?_, ?_, fun _ => by show (pths (zR S)).length ≤ 200; omega, h6, h7, h8, h9, h10⟩
        · show (zL S ++ [(k, zT S, none)]).length ≤ 20
          rw [List.length_append, List.length_singleton]; omega
        · intro t ht
          have ht' : t ∈ zL S ++ [(k, zT S, none)] := ht
          rcases List.mem_append.mp ht' with z | z
          · exact h4 t z
          · rw [List.mem_singleton.mp z]
            exact ⟨(ixo_some hk).2, Nat.le_refl _, fun u hu => by cases hu⟩
theorem ok_untell {S : St} (h : okSt S) (n : Int32) : okSt (o_untell n S).2 := by
  unfold o_untell
  cases hk : ixo n (zL S).length with
  | none => exact h
  | some k =>
    simp only
    obtain ⟨h1, h2, h3, h4, h5, h6, h7, h8, h9, h10⟩ := h
    have hkl := (ixo_some hk).2
    by_cases q : ((zL S).getD k default).2.2 = none
    · rw [ifp q]
      have hget := h4 _ (List.mem_of_getElem? (getD_get hkl))
      refine ⟨h1, h2, by show ((zL S).set k _).length ≤ 20; rw [List.length_set]; exact h3, fun t ht => ?_, fun z => ?_, h6, h7, h8, h9, h10⟩
      · have ht' : t ∈ (zL S).set k (((zL S).getD k default).1, ((zL S).getD k default).2.1, some (zT S)) := ht
        rcases List.mem_or_eq_of_mem_set ht' with z | z
        · exact h4 t z
        · rw [z]; exact ⟨hget.1, hget.2.1, fun u hu => by cases hu; exact Nat.le_refl _⟩
      · have z' : ((zL S).set k (((zL S).getD k default).1, ((zL S).getD k default).2.1, some (zT S))).length ≠ 0 := z
        rw [List.length_set] at z'
        exact h5 z'
    · rw [ifn q]; exact ⟨h1, h2, h3, h4, h5, h6, h7, h8, h9, h10⟩
theorem ok_later {S : St} (h : okSt S) (y : Int32) : okSt (o_later y S).2 := by
  unfold o_later
  cases hk : ixo y 1001 with
  | none => exact h
  | some k =>
    simp only
    obtain ⟨h1, h2, h3, h4, h5, h6, h7, h8, h9, h10⟩ := h
    by_cases q : zT S + k ≤ 100000
    · rw [ifp q]
      exact ⟨h1, h2, h3, fun t ht => (h4 t ht).mono (Nat.le_add_right _ _), h5, q, h7, h8, h9, fun j l w hj => ⟨(h10 j l w hj).1, fun t ht => ((h10 j l w hj).2.1 t ht).mono (Nat.le_add_right _ _), (h10 j l w hj).2.2⟩⟩
    · rw [ifn q]; exact ⟨h1, h2, h3, h4, h5, h6, h7, h8, h9, h10⟩
theorem ok_seed {S : St} (h : okSt S) (w : Int32) : okSt (o_seed w S).2 := h
theorem ok_image {S : St} (h : okSt S) (j : Int32) : okSt (o_image j S).2 := by
  unfold o_image
  cases hk : ixo j 3 with
  | none => exact h
  | some k =>
    obtain ⟨h1, h2, h3, h4, h5, h6, h7, h8, h9, h10⟩ := h
    refine ⟨h1, h2, h3, h4, h5, h6, h7, h8, h9, fun i l w hi => ?_⟩
    have hi' : (if i = k then some (zL S, zW S) else zB S i) = some (l, w) := hi
    by_cases q : i = k
    · rw [ifp q] at hi'; cases hi'; exact ⟨h3, h4, h5⟩
    · rw [ifn q] at hi'; exact h10 i l w hi'
theorem ok_back {S : St} (h : okSt S) (j : Int32) : okSt (o_back j S).2 := by
  unfold o_back
  cases hk : ixo j 3 with
  | none => exact h
  | some k =>
    simp only
    cases hb : zB S k with
    | none => exact h
    | some q =>
      obtain ⟨h1, h2, h3, h4, h5, h6, h7, h8, h9, h10⟩ := h
      obtain ⟨x1, x2, x3⟩ := h10 k q.1 q.2 hb
      exact ⟨h1, h2, x1, x2, x3, h6, h7, h8, h9, h10⟩
theorem okF_lay {x : Stq} {i : Nat} {g : Pl} (ho : okS x) (hr : yR g < 2 ^ yC g) (hc : yC g + layN x ≤ 8) : yR (layG x i g) < 2 ^ yC (layG x i g) ∧ yC (layG x i g) ≤ 8 ∧ yS (layG x i g) = yS g := by
  unfold layG
  unfold layN at hc
  have r1 : ∀ first, redOf (0, 0, 0) x first i < 2 := fun first => redOf_lt ho (fun z => by cases z)
  by_cases t : sT x = 0
  · rw [ifp t] at hc ⊢
    have := card_ok (red := redOf (0, 0, 0) x 1 i) hr (r1 1)
    exact ⟨card_ok this (r1 0), by show yC g + 1 + 1 ≤ 8; omega, rfl⟩
  · rw [ifn t] at hc ⊢
    exact ⟨card_ok hr (r1 1), by show yC g + 1 ≤ 8; omega, rfl⟩
theorem movG_w (x : Stq) (g : Pl) (h : 0 < wys x) : ∃ W n, movG x g = (yA g, yS g, mvr (sfr x n) (yR g), yC g, ySn g, yLk g, W) ∧ n < wys x := by
  unfold movG
  generalize drw (yW g) = W
  by_cases t : 4 ≤ sT x
  · rw [ifp t]
    refine ⟨W, drv W (wys x), rfl, ?_⟩
    unfold drv
    exact Nat.mod_lt _ h
  · rw [ifn t]
    exact ⟨yW g, 0, rfl, h⟩
theorem okF_mov {x : Stq} {g : Pl} (ho : okS x) (hr : yR g < 2 ^ yC g) (hn : need x ≤ yC g) : yR (movG x g) < 2 ^ yC (movG x g) ∧ yC (movG x g) = yC g ∧ yS (movG x g) = yS g := by
  have key : ∀ w, w < wys x → mvr (sfr x w) (yR g) < 2 ^ yC g := fun w hw => mvr_keep hr fun p hp hp2 => by
    have h7 := sfr_ok ho hw p
    have h8 := ((sfr_ok ho hw (sfr x w p)).2.2 (yC g) hn hp2).2
    rw [h7.2.1] at h8
    exact h8
  have hwy := wys_b ho
  obtain ⟨W, n, e, hn⟩ := movG_w x g hwy.1
  rw [e]
  exact ⟨key n hn, rfl, rfl⟩
theorem plG_ok {xs : List Stq} (ho : okX xs) (i : Nat) : ∀ (f pc : Nat) (g : Pl), yS g ≤ pc → pc ≤ xs.length → yR g < 2 ^ yC g → yC g ≤ 8 → okF (plG xs i f pc g) := by
  have h40 := ho.1
  have fin : ∀ g : Pl, yS g ≤ xs.length → yR g < 2 ^ yC g → yC g ≤ 8 → okF g := fun g h1 h2 h3 => ⟨by omega, row_lt h2 h3, h3⟩
  intro f
  induction f with
  | zero => intro pc g h1 h2 h3 h4; exact fin g (by omega) h3 h4
  | succ f ih =>
    intro pc g h1 h2 h3 h4
    rw [plG]
    cases hx : xs[pc]? with
    | none => exact fin g (by omega) h3 h4
    | some x =>
      have hlt : pc < xs.length := (List.getElem?_eq_some_iff.mp hx).1
      obtain ⟨hox, hog⟩ := ho.2 pc x hx
      have tk : yS (tick g) = yS g + 1 := rfl
      have ft : okF (tick g) := fin (tick g) (by rw [tk]; omega) h3 h4
      simp only
      by_cases t1 : sT x ≤ 1
      · rw [ifp t1]
        by_cases q : yC g + layN x ≤ 8
        · rw [ifp q]
          obtain ⟨a1, a2, a3⟩ := okF_lay (i := i) (g := tick g) hox h3 q
          exact ih (pc + 1) _ (by rw [a3, tk]; omega) (by omega) a1 a2
        · rw [ifn q]; exact ft
      rw [ifn t1]
      by_cases t7 : sT x ≤ 7
      · rw [ifp t7]
        by_cases q : need x ≤ yC g
        · rw [ifp q]
          obtain ⟨a1, a2, a3⟩ := okF_mov (g := tick g) hox h3 q
          exact ih (pc + 1) _ (by rw [a3, tk]; omega) (by omega) a1 (by rw [a2]; exact h4)
        · rw [ifn q]; exact ft
      rw [ifn t7]
      by_cases t8 : sT x = 8
      · rw [ifp t8]
        by_cases q : need x ≤ yC g
        · rw [ifp q]; exact ih (pc + 1) _ (by show yS g + 1 ≤ pc + 1; omega) (by omega) h3 h4
        · rw [ifn q]; exact ft
      rw [ifn t8]
      by_cases t9 : sT x = 9
      · rw [ifp t9]
        have hg := hog t9
        by_cases q : ySn g (s1 x) = s2 x + 1
        · rw [ifp q]; exact ih (s3 x + 1) _ (by show yS g + 1 ≤ s3 x + 1; omega) (by omega) h3 h4
        · rw [ifn q]; exact ih (pc + 1) _ (by show yS g + 1 ≤ pc + 1; omega) (by omega) h3 h4
      rw [ifn t9]
      by_cases t11 : sT x = 11
      · rw [ifp t11]; exact ft
      rw [ifn t11]
      by_cases t12 : sT x = 12
      · rw [ifp t12]; exact ft
      rw [ifn t12]
      exact ih (pc + 1) _ (by show yS g + 1 ≤ pc + 1; omega) (by omega) h3 h4
theorem ok_play {S S' : St} {i r : Int32} (h : okSt S) (hq : q_play i S r S') : okSt S' := by
  unfold q_play at hq
  cases hk : ixo i (rN (zR S)) with
  | none => rw [hk] at hq; rw [hq.2]; exact h
  | some k =>
    rw [hk] at hq
    simp only at hq
    by_cases q : 200 < (pths (zR S)).length
    · rw [ifp q] at hq; rw [hq.2]; exact h
    · rw [ifn q] at hq
      rw [hq.2]
      obtain ⟨h1, h2, h3, h4, h5, h6, h7, h8, h9, h10⟩ := h
      obtain ⟨f1, f2, f3⟩ := plG_ok (xs := rX (zR S)) h2.2.2.1.1 k ((rX (zR S)).length + 1) 0 (pl0 (zW S)) (Nat.le_refl 0) (Nat.zero_le _) (by show 0 < 2 ^ 0; decide) (by show 0 ≤ 8; omega)
      exact ⟨h1, h2, h3, h4, h5, h6, f1, f2, f3, h10⟩
theorem ok_recipe {S : St} (h : okSt S) : okSt (o_recipe S).2 := by
  obtain ⟨h1, h2, h3, h4, h5, h6, h7, h8, h9, h10⟩ := h
  unfold o_recipe
  cases hp : prs (txS S) with
  | inl e => exact ⟨by show 0 ≤ 1600; omega, h2, h3, h4, h5, h6, h7, h8, h9, h10⟩
  | inr R => exact ⟨by show 0 ≤ 1600; omega, prs_ok hp, by show 0 ≤ 20; omega, (fun t ht => by cases ht), (fun z => absurd rfl z), h6, h7, h8, h9, (fun j l w hj => by cases hj)⟩
/-! answers are one -/
theorem un_wrong {R : Rc} {r r' : Int32} (h : q_wrong R r) (h' : q_wrong R r') : r = r' := by
  unfold q_wrong at h h'
  by_cases q : 200 < (pths R).length
  · rw [ifp q] at h h'; rw [h, h']
  · rw [ifn q] at h h'; exact fstS_un h h'
theorem un_leaks {R : Rc} {sec : Bool} {r r' : Int32} (h : q_leaks R sec r) (h' : q_leaks R sec r') : r = r' := by
  unfold q_leaks at h h'
  by_cases q : 200 < (pths R).length
  · rw [ifp q] at h h'; rw [h, h']
  · rw [ifn q] at h h'
    rcases h with ⟨k, a1, a2, rfl⟩ | ⟨a1, rfl⟩
    · rcases h' with ⟨k', b1, b2, rfl⟩ | ⟨b1, rfl⟩
      · have : k = k' := by
          rcases Nat.lt_trichotomy k k' with z | z | z
          · exact absurd a1 (b2 k z)
          · exact z
          · exact absurd b1 (a2 k' z)
        rw [this]
      · exact absurd a1 (b1 k)
    · rcases h' with ⟨k', b1, b2, rfl⟩ | ⟨b1, rfl⟩
      · exact absurd b1 (a1 k')
      · rfl
theorem un_closed {R : Rc} {md : Md} {sec : Bool} {r r' : Int32} (h : q_closed R md sec r) (h' : q_closed R md sec r') : r = r' := by
  unfold q_closed at h h'
  rcases h with ⟨a, rfl⟩ | ⟨a, h⟩
  · rcases h' with ⟨b, rfl⟩ | ⟨b, -⟩
    · rfl
    · omega
  · rcases h' with ⟨b, -⟩ | ⟨b, h'⟩
    · omega
    · rcases h with ⟨c, rfl⟩ | ⟨c, rfl⟩
      · rcases h' with ⟨d, rfl⟩ | ⟨d, rfl⟩
        · rfl
        · exact absurd c d
      · rcases h' with ⟨d, rfl⟩ | ⟨d, rfl⟩
        · exact absurd d c
        · rfl
theorem un_bent {c : Int32} {sec : Bool} {R : Rc} {r r' : Int32} (h : q_bent c sec R r) (h' : q_bent c sec R r') : r = r' := by
  unfold q_bent at h h'
  cases hk : ixo c 8 with
  | none => rw [hk] at h h'; rw [h, h']
  | some k => rw [hk] at h h'; exact un_closed h h'
theorem un_counted {c : Int32} {sec : Bool} {R : Rc} {r r' : Int32} (h : q_counted c sec R r) (h' : q_counted c sec R r') : r = r' := by
  unfold q_counted at h h'
  cases hk : ixo c (mixNo (rX R) (rX R).length) with
  | none => rw [hk] at h h'; rw [h, h']
  | some k => rw [hk] at h h'; exact un_closed h h'
theorem skF_un {R : Rc} {n r o r' o' : Nat} (h : skF R n r o) (h' : skF R n r' o') : r = r' ∧ o = o' := by
  obtain ⟨a1, a2, a3, a4⟩ := h
  obtain ⟨b1, b2, b3, b4⟩ := h'
  have e : r = r' := by
    rcases Nat.lt_trichotomy r r' with z | z | z
    · exact absurd a2 (b4 r z o)
    · exact z
    · exact absurd b2 (a4 r' z o')
  subst e
  refine ⟨rfl, ?_⟩
  rcases Nat.lt_trichotomy o o' with z | z | z
  · exact absurd a2 (b3 o z)
  · exact z
  · exact absurd b2 (a3 o' z)
theorem un_seek {n w : Int32} {R : Rc} {r r' : Int32} (h : q_seek n w R r) (h' : q_seek n w R r') : r = r' := by
  unfold q_seek at h h'
  cases hn : ixo n 4 with
  | none => rw [hn] at h h'; rw [h, h']
  | some n' =>
    cases hw : ixo w 3 with
    | none => rw [hn, hw] at h h'; rw [h, h']
    | some w' =>
      rw [hn, hw] at h h'
      simp only at h h'
      rcases h with ⟨m, row, o, a1, a2, a3, rfl⟩ | ⟨a1, rfl⟩
      · rcases h' with ⟨m', row', o', b1, b2, b3, rfl⟩ | ⟨b1, rfl⟩
        · have e : m = m' := by
            rcases Nat.lt_trichotomy m m' with z | z | z
            · exact absurd a3.2.1 (b2 m z row o a3.1)
            · exact z
            · exact absurd b3.2.1 (a2 m' z row' o' b3.1)
          subst e
          obtain ⟨rfl, rfl⟩ := skF_un a3 b3
          rfl
        · exact absurd a3.2.1 (b1 m a1 row o a3.1)
      · rcases h' with ⟨m', row', o', b1, b2, b3, rfl⟩ | ⟨b1, rfl⟩
        · exact absurd b3.2.1 (a1 m' b1 row' o' b3.1)
        · rfl
theorem un_play {i : Int32} {S S1 S2 : St} {r r' : Int32} (h : q_play i S r S1) (h' : q_play i S r' S2) : r = r' ∧ S1 = S2 := by
  unfold q_play at h h'
  cases hk : ixo i (rN (zR S)) with
  | none => rw [hk] at h h'; rw [h.1, h'.1, h.2, h'.2]; exact ⟨rfl, rfl⟩
  | some k =>
    rw [hk] at h h'
    simp only at h h'
    by_cases q : 200 < (pths (zR S)).length
    · rw [ifp q] at h h'; rw [h.1, h'.1, h.2, h'.2]; exact ⟨rfl, rfl⟩
    · rw [ifn q] at h h'
      exact ⟨fstS_un h.1 h'.1, by rw [h.2, h'.2]⟩
/-- the start -/
def R0 : Rc := (2, [], [], [], none, 0)
def St0 : St := ([], (0, -1), R0, [], 0, 1, (false, 0, 0, 0, 0), fun _ => none)
theorem okQ0 : okQ R0 := ⟨by decide, by decide, ⟨⟨by decide, (fun k x hk => by simp [R0, rX] at hk)⟩, by decide, by decide⟩, by decide, (fun x hx => by cases hx), by decide, (fun x hx => by cases hx), (fun c hc => by cases hc), by decide, (fun x hx => by cases hx)⟩
theorem okSt0 : okSt St0 := ⟨by decide, okQ0, by decide, (fun t ht => by cases ht), (fun z => absurd rfl z), by decide, by decide, by decide, by decide, (fun j l w hj => by cases hj)⟩

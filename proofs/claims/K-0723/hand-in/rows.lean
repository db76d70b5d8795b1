section
theorem pk_us {f : Nat → Int32} {k : Nat} {x : Int32} : upd f k x k = x := if_pos rfl
theorem pk_un {f : Nat → Int32} {k j : Nat} {x : Int32} (h : j ≠ k) : upd f k x j = f j := if_neg h
theorem pk_uLs {f : Nat → Int64} {k : Nat} {x : Int64} : vp_updL f k x k = x := if_pos rfl
theorem pk_uLn {f : Nat → Int64} {k j : Nat} {x : Int64} (h : j ≠ k) : vp_updL f k x j = f j := if_neg h
theorem pk_sub {a b : Nat} (h : b ≤ a) : nI a - nI b = nI (a - b) := by
  obtain ⟨c, rfl⟩ : ∃ c, a = c + b := ⟨a - b, by omega⟩
  rw [← nI_add, Int32.add_sub_cancel, Nat.add_sub_cancel]
theorem pk_ns (z : Int32) : narrow .short (.int z.toInt16.toInt32) = .int z.toInt16.toInt32 := congrArg Value.int (by simp)
theorem pk_fs (r : Int32) : fits .short (.int r.toInt16.toInt32) = true := by
  have ⟨a, b⟩ := lg_i2s_range r
  have h1 : (-32768 : Int32).toInt = -32768 := by decide
  have h2 : (32767 : Int32).toInt = 32767 := by decide
  simp only [fits, Bool.and_eq_true, decide_eq_true_eq, Int32.le_iff_toInt_le, h1, h2]
  omega
/-! small facts of the four ids and of the mark -1 -/
theorem lc_s16 : ∀ i, i < 4 → (nI i).toInt16.toInt32 = nI i := by decide +kernel
theorem lc_m16 : (-1 : Int32).toInt16.toInt32 = -1 := by decide +kernel
theorem lc_v16 {x : Int32} (h : x.toInt16.toInt32 = x) : vp_nar .short x = x := by
  rw [vp_nar_short]; exact h
theorem lc_n1 : vp_nar .short (-1) = -1 := lc_v16 lc_m16
theorem lc_nI {i : Nat} (h : i < 4) : vp_nar .short (nI i) = nI i := lc_v16 (lc_s16 i h)
theorem lc_nar {x : Int32} (h : x.toInt16.toInt32 = x) : narrow .short (.int x) = .int x := by
  have a := pk_ns x
  rw [h] at a
  exact a
theorem lc_fit {x : Int32} (h : x.toInt16.toInt32 = x) : fits .short (.int x) = true := by
  have a := pk_fs x
  rw [h] at a
  exact a
theorem lc_ne1 : ∀ i, i < 4 → ¬ nI i = -1 := by decide +kernel
theorem lc_le3 : ∀ i, i < 4 → nI i ≤ 3 := by decide +kernel
theorem lc_nlt3 : ∀ i, i < 4 → ¬ (3 : Int32) < nI i := by decide +kernel
theorem lc_nge4 : ∀ i, i < 4 → ¬ (4 : Int32) ≤ nI i := by decide +kernel
theorem lc_ge4 : (4 : Int32) ≤ nI 4 := by decide +kernel
theorem lc_m1lt : (-1 : Int32) < 0 := by decide
theorem lc_m1le : ¬ (0 : Int32) ≤ -1 := by decide
theorem lc_cl {i : Nat} (h : i < 4) : (nI i).toNatClampNeg = i := nI_clamp (by omega)
theorem lc_nn {i : Nat} (h : i < 4) : ¬ nI i < 0 := nI_pos (by omega)
theorem lc_pp {i : Nat} (h : i < 4) : 0 ≤ nI i := nI_pos' (by omega)
theorem lc_in {i : Nat} (h : i < 4) : vp_in (nI i) 4 := vp_in_nI h (by decide)
theorem lc_inj {i j : Nat} (hi : i < 4) (hj : j < 4) (h : nI i = nI j) : i = j :=
  (nI_eq (by omega) (by omega)).mp h
theorem lc_ix (x : Int32) : x < 0 ∨ (¬ x < 0 ∧ ¬ x ≤ 3) ∨ ∃ j : Nat, j < 4 ∧ x = nI j := by
  by_cases h : x < 0
  · exact Or.inl h
  · by_cases h3 : x ≤ 3
    · obtain ⟨j, hj, e⟩ := nI_of2 (M := 3) (n := 3) (by decide) h h3
      exact Or.inr (Or.inr ⟨j, by omega, e⟩)
    · exact Or.inr (Or.inl ⟨h, h3⟩)
theorem lc_up0 {q : Nat → Int32} {d : Nat} (z : q d = 0) : upd q d 0 = q := by
  funext j
  by_cases h : j = d
  · rw [h, pk_us, z]
  · rw [pk_un h]
end
section
/-! THE PLAIN LAW. Live below i; the next live one above b by number; the last live one below b -/
def lc_M (q : Nat → Int32) (i m : Nat) : Prop := m < i ∧ ¬ q m = 0
def lc_Nx (L : Nat → Prop) (s : Nat → Nat) (b : Nat) (r : Int32) : Prop :=
  (r = -1 ∧ ∀ m, L m → s m ≤ b) ∨ (∃ i, i < 4 ∧ r = nI i ∧ L i ∧ b < s i ∧ ∀ m, L m → b < s m → s i ≤ s m)
def lc_Pv (L : Nat → Prop) (s : Nat → Nat) (b : Nat) (r : Int32) : Prop :=
  (r = -1 ∧ ∀ m, L m → b ≤ s m) ∨ (∃ i, i < 4 ∧ r = nI i ∧ L i ∧ s i < b ∧ ∀ m, L m → s m < b → s m ≤ s i)
def lc_I (hd tl : Int32) (nx pv q : Nat → Int32) (s : Nat → Nat) (c : Nat) : Prop :=
  (∀ j, j < 4 → ¬ q j < 0) ∧ (∀ j, lc_M q 4 j → 1 ≤ s j ∧ s j ≤ c) ∧
  (∀ i j, lc_M q 4 i → lc_M q 4 j → s i = s j → i = j) ∧
  lc_Nx (lc_M q 4) s 0 hd ∧ lc_Pv (lc_M q 4) s (c + 1) tl ∧
  (∀ j, lc_M q 4 j → lc_Nx (lc_M q 4) s (s j) (nx j)) ∧ (∀ j, lc_M q 4 j → lc_Pv (lc_M q 4) s (s j) (pv j))
theorem lc_Nx_at {L : Nat → Prop} {s : Nat → Nat} {b d : Nat} (hd : d < 4) (h : lc_Nx L s b (nI d)) :
    L d ∧ b < s d ∧ ∀ m, L m → b < s m → s d ≤ s m := by
  rcases h with ⟨e, _⟩ | ⟨i, hi, e, li, bi, mi⟩
  · exact absurd e (lc_ne1 d hd)
  · cases lc_inj hd hi e
    exact ⟨li, bi, mi⟩
theorem lc_Pv_at {L : Nat → Prop} {s : Nat → Nat} {b d : Nat} (hd : d < 4) (h : lc_Pv L s b (nI d)) :
    L d ∧ s d < b ∧ ∀ m, L m → s m < b → s m ≤ s d := by
  rcases h with ⟨e, _⟩ | ⟨i, hi, e, li, bi, mi⟩
  · exact absurd e (lc_ne1 d hd)
  · cases lc_inj hd hi e
    exact ⟨li, bi, mi⟩
theorem lc_Nx_u {L : Nat → Prop} {s : Nat → Nat} {b : Nat} {r r' : Int32} (inj : ∀ i j, L i → L j → s i = s j → i = j)
    (h : lc_Nx L s b r) (h' : lc_Nx L s b r') : r = r' := by
  rcases h with ⟨e, h⟩ | ⟨i, hi, e, li, bi, mi⟩ <;> rcases h' with ⟨e', h'⟩ | ⟨i', hi', e', li', bi', mi'⟩
  · rw [e, e']
  · have := h i' li'
    omega
  · have := h' i li
    omega
  · have h1 := mi i' li' bi'
    have h2 := mi' i li bi
    rw [e, e', inj i i' li li' (by omega)]
theorem lc_Pv_u {L : Nat → Prop} {s : Nat → Nat} {b : Nat} {r r' : Int32} (inj : ∀ i j, L i → L j → s i = s j → i = j)
    (h : lc_Pv L s b r) (h' : lc_Pv L s b r') : r = r' := by
  rcases h with ⟨e, h⟩ | ⟨i, hi, e, li, bi, mi⟩ <;> rcases h' with ⟨e', h'⟩ | ⟨i', hi', e', li', bi', mi'⟩
  · rw [e, e']
  · have := h i' li'
    omega
  · have := h' i li
    omega
  · have h1 := mi i' li' bi'
    have h2 := mi' i li bi
    rw [e, e', inj i i' li li' (by omega)]
/-- next and prev are each other's inverse -/
theorem lc_fl {L : Nat → Prop} {s : Nat → Nat} {j d : Nat} (hj : j < 4) (hd : d < 4) (lj : L j)
    (h : lc_Nx L s (s j) (nI d)) : lc_Pv L s (s d) (nI j) := by
  obtain ⟨_, h1, h2⟩ := lc_Nx_at hd h
  refine Or.inr ⟨j, hj, rfl, lj, h1, fun m lm hm => ?_⟩
  by_cases h3 : s j < s m
  · have := h2 m lm h3
    omega
  · omega
theorem lc_lf {L : Nat → Prop} {s : Nat → Nat} {j d : Nat} (hj : j < 4) (hd : d < 4) (ld : L d)
    (h : lc_Pv L s (s d) (nI j)) : lc_Nx L s (s j) (nI d) := by
  obtain ⟨_, h1, h2⟩ := lc_Pv_at hj h
  refine Or.inr ⟨d, hd, rfl, ld, h1, fun m lm hm => ?_⟩
  by_cases h3 : s m < s d
  · have := h2 m lm h3
    omega
  · omega
/-! one live node less -/
theorem lc_Md {q : Nat → Int32} {d m : Nat} : lc_M (upd q d 0) 4 m ↔ lc_M q 4 m ∧ m ≠ d := by
  unfold lc_M
  by_cases h : m = d
  · subst h
    rw [pk_us]
    exact ⟨fun z => absurd rfl z.2, fun z => absurd rfl z.2⟩
  · rw [pk_un h]
    exact ⟨fun z => ⟨z, h⟩, fun z => z.1⟩
theorem lc_Nx1 {L L' : Nat → Prop} {s : Nat → Nat} {b d : Nat} {r : Int32} (hL : ∀ m, L' m ↔ L m ∧ m ≠ d)
    (hr : ¬ r = nI d) (h : lc_Nx L s b r) : lc_Nx L' s b r := by
  rcases h with ⟨e, h⟩ | ⟨i, hi, e, li, bi, mi⟩
  · exact Or.inl ⟨e, fun m hm => h m ((hL m).mp hm).1⟩
  · exact Or.inr ⟨i, hi, e, (hL i).mpr ⟨li, fun z => hr (z ▸ e)⟩, bi, fun m hm => mi m ((hL m).mp hm).1⟩
theorem lc_Pv1 {L L' : Nat → Prop} {s : Nat → Nat} {b d : Nat} {r : Int32} (hL : ∀ m, L' m ↔ L m ∧ m ≠ d)
    (hr : ¬ r = nI d) (h : lc_Pv L s b r) : lc_Pv L' s b r := by
  rcases h with ⟨e, h⟩ | ⟨i, hi, e, li, bi, mi⟩
  · exact Or.inl ⟨e, fun m hm => h m ((hL m).mp hm).1⟩
  · exact Or.inr ⟨i, hi, e, (hL i).mpr ⟨li, fun z => hr (z ▸ e)⟩, bi, fun m hm => mi m ((hL m).mp hm).1⟩
theorem lc_Nx2 {L L' : Nat → Prop} {s : Nat → Nat} {b d : Nat} {n : Int32} (hd : d < 4) (hL : ∀ m, L' m ↔ L m ∧ m ≠ d)
    (inj : ∀ i j, L i → L j → s i = s j → i = j) (h : lc_Nx L s b (nI d)) (hn : lc_Nx L s (s d) n) : lc_Nx L' s b n := by
  obtain ⟨ld, h1, h2⟩ := lc_Nx_at hd h
  have ne : ∀ m, L' m → s m ≠ s d := fun m hm z => ((hL m).mp hm).2 (inj m d ((hL m).mp hm).1 ld z)
  rcases hn with ⟨e, hn⟩ | ⟨i, hi, e, li, bi, mi⟩
  · refine Or.inl ⟨e, fun m hm => ?_⟩
    have a := hn m ((hL m).mp hm).1
    have b1 := ne m hm
    by_cases h3 : b < s m
    · have := h2 m ((hL m).mp hm).1 h3
      omega
    · omega
  · refine Or.inr ⟨i, hi, e, (hL i).mpr ⟨li, fun z => ?_⟩, by omega, fun m hm hb => mi m ((hL m).mp hm).1 ?_⟩
    · rw [z] at bi
      omega
    · have a := h2 m ((hL m).mp hm).1 hb
      have b1 := ne m hm
      omega
theorem lc_Pv2 {L L' : Nat → Prop} {s : Nat → Nat} {b d : Nat} {n : Int32} (hd : d < 4) (hL : ∀ m, L' m ↔ L m ∧ m ≠ d)
    (inj : ∀ i j, L i → L j → s i = s j → i = j) (h : lc_Pv L s b (nI d)) (hn : lc_Pv L s (s d) n) : lc_Pv L' s b n := by
  obtain ⟨ld, h1, h2⟩ := lc_Pv_at hd h
  have ne : ∀ m, L' m → s m ≠ s d := fun m hm z => ((hL m).mp hm).2 (inj m d ((hL m).mp hm).1 ld z)
  rcases hn with ⟨e, hn⟩ | ⟨i, hi, e, li, bi, mi⟩
  · refine Or.inl ⟨e, fun m hm => ?_⟩
    have a := hn m ((hL m).mp hm).1
    have b1 := ne m hm
    by_cases h3 : s m < b
    · have := h2 m ((hL m).mp hm).1 h3
      omega
    · omega
  · refine Or.inr ⟨i, hi, e, (hL i).mpr ⟨li, fun z => ?_⟩, by omega, fun m hm hb => mi m ((hL m).mp hm).1 ?_⟩
    · rw [z] at bi
      omega
    · have a := h2 m ((hL m).mp hm).1 hb
      have b1 := ne m hm
      omega
/-- a live node d leaves, as the component unlinks it (nothing is asked of d's own links) -/
theorem lc_del {hd tl hd' tl' n p : Int32} {nx pv q nx' pv' : Nat → Int32} {s : Nat → Nat} {c d : Nat}
    (I : lc_I hd tl nx pv q s c) (hl : lc_M q 4 d) (en : nx d = n) (ep : pv d = p)
    (h1 : p = -1 → hd' = n) (h2 : ¬ p = -1 → hd' = hd) (h3 : n = -1 → tl' = p) (h4 : ¬ n = -1 → tl' = tl)
    (h5 : ∀ j, j < 4 → j ≠ d → p = nI j → nx' j = n) (h6 : ∀ j, j < 4 → j ≠ d → ¬ p = nI j → nx' j = nx j)
    (h7 : ∀ j, j < 4 → j ≠ d → n = nI j → pv' j = p) (h8 : ∀ j, j < 4 → j ≠ d → ¬ n = nI j → pv' j = pv j) :
    lc_I hd' tl' nx' pv' (upd q d 0) s c := by
  obtain ⟨hq, hs, inj, hh, ht, hn, hp⟩ := I
  have d4 : d < 4 := hl.1
  have hL : ∀ m, lc_M (upd q d 0) 4 m ↔ lc_M q 4 m ∧ m ≠ d := fun m => lc_Md
  have nd := hn d hl
  have pd := hp d hl
  have sd := hs d hl
  rw [en] at nd
  rw [ep] at pd
  refine ⟨fun j hj => ?_, fun j lj => hs j ((hL j).mp lj).1, fun i j li lj => inj i j ((hL i).mp li).1 ((hL j).mp lj).1, ?_, ?_, fun j lj => ?_, fun j lj => ?_⟩
  · by_cases z : j = d
    · rw [z, pk_us]; decide
    · rw [pk_un z]; exact hq j hj
  · by_cases z : p = -1
    · rw [h1 z]
      refine lc_Nx2 d4 hL inj ?_ nd
      rcases pd with ⟨_, pd⟩ | ⟨i, hi, e, _⟩
      · exact Or.inr ⟨d, d4, rfl, hl, by omega, fun m lm _ => pd m lm⟩
      · exact absurd (e.symm.trans z) (lc_ne1 i hi)
    · rw [h2 z]
      refine lc_Nx1 hL (fun e => ?_) hh
      rw [e] at hh
      obtain ⟨_, _, b2⟩ := lc_Nx_at d4 hh
      rcases pd with ⟨e, _⟩ | ⟨i, hi, e, li, bi, _⟩
      · exact z e
      · have a1 := b2 i li (by have := (hs i li).1; omega)
        omega
  · by_cases z : n = -1
    · rw [h3 z]
      refine lc_Pv2 d4 hL inj ?_ pd
      rcases nd with ⟨_, nd⟩ | ⟨i, hi, e, _⟩
      · exact Or.inr ⟨d, d4, rfl, hl, by omega, fun m lm _ => nd m lm⟩
      · exact absurd (e.symm.trans z) (lc_ne1 i hi)
    · rw [h4 z]
      refine lc_Pv1 hL (fun e => ?_) ht
      rw [e] at ht
      obtain ⟨_, _, b2⟩ := lc_Pv_at d4 ht
      rcases nd with ⟨e, _⟩ | ⟨i, hi, e, li, bi, _⟩
      · exact z e
      · have a1 := b2 i li (by have := (hs i li).2; omega)
        omega
  · obtain ⟨lj, jd⟩ := (hL j).mp lj
    have j4 : j < 4 := lj.1
    by_cases z : p = nI j
    · rw [h5 j j4 jd z]
      rw [z] at pd
      exact lc_Nx2 d4 hL inj (lc_lf j4 d4 hl pd) nd
    · rw [h6 j j4 jd z]
      refine lc_Nx1 hL (fun e => z ?_) (hn j lj)
      have a := hn j lj
      rw [e] at a
      exact lc_Pv_u inj pd (lc_fl j4 d4 lj a)
  · obtain ⟨lj, jd⟩ := (hL j).mp lj
    have j4 : j < 4 := lj.1
    by_cases z : n = nI j
    · rw [h7 j j4 jd z]
      rw [z] at nd
      exact lc_Pv2 d4 hL inj (lc_fl d4 j4 hl nd) pd
    · rw [h8 j j4 jd z]
      refine lc_Pv1 hL (fun e => z ?_) (hp j lj)
      have a := hp j lj
      rw [e] at a
      exact lc_Nx_u inj nd (lc_lf d4 j4 lj a)
/-! one live node more, the youngest -/
def lc_S (s : Nat → Nat) (d v : Nat) : Nat → Nat := fun j => if j = d then v else s j
theorem lc_Ss {s : Nat → Nat} {d v : Nat} : lc_S s d v d = v := if_pos rfl
theorem lc_Sn {s : Nat → Nat} {d v j : Nat} (h : j ≠ d) : lc_S s d v j = s j := if_neg h
theorem lc_Ma {q : Nat → Int32} {d m : Nat} {x : Int32} (hd : d < 4) (hx : ¬ x = 0) : lc_M (upd q d x) 4 m ↔ m = d ∨ (m ≠ d ∧ lc_M q 4 m) := by
  unfold lc_M
  by_cases h : m = d
  · subst h
    rw [pk_us]
    exact ⟨fun _ => Or.inl rfl, fun _ => ⟨hd, hx⟩⟩
  · rw [pk_un h]
    exact ⟨fun z => Or.inr ⟨h, z⟩, fun z => z.elim (fun e => absurd e h) (fun z => z.2)⟩
theorem lc_add {hd tl hd' : Int32} {nx pv q nx' pv' : Nat → Int32} {s : Nat → Nat} {c d : Nat} {x : Int32}
    (I : lc_I hd tl nx pv q s c) (d4 : d < 4) (z : q d = 0) (hx : 0 < x)
    (h1 : tl = -1 → hd' = nI d) (h2 : ¬ tl = -1 → hd' = hd) (h5 : nx' d = -1)
    (h6 : ∀ j, j < 4 → j ≠ d → tl = nI j → nx' j = nI d) (h7 : ∀ j, j < 4 → j ≠ d → ¬ tl = nI j → nx' j = nx j)
    (h8 : pv' d = tl) (h9 : ∀ j, j < 4 → j ≠ d → pv' j = pv j) :
    lc_I hd' (nI d) nx' pv' (upd q d x) (lc_S s d (c + 1)) (c + 1) := by
  obtain ⟨hq, hs, inj, hh, ht, hn, hp⟩ := I
  have x0 : ¬ x = 0 := fun e => by rw [e] at hx; exact absurd hx (by decide)
  have nd : ∀ j, lc_M q 4 j → j ≠ d := fun j lj e => lj.2 (e ▸ z)
  have ld : lc_M (upd q d x) 4 d := (lc_Ma d4 x0).mpr (Or.inl rfl)
  have lo : ∀ j, lc_M q 4 j → lc_M (upd q d x) 4 j := fun j lj => (lc_Ma d4 x0).mpr (Or.inr ⟨nd j lj, lj⟩)
  have Sj : ∀ j, lc_M q 4 j → lc_S s d (c + 1) j = s j := fun j lj => lc_Sn (nd j lj)
  have el : ∀ {P : Nat → Prop}, P d → (∀ j, lc_M q 4 j → P j) → ∀ j, lc_M (upd q d x) 4 j → P j := by
    intro P a b j lj
    rcases (lc_Ma d4 x0).mp lj with e | ⟨_, lj⟩
    · rw [e]; exact a
    · exact b j lj
  have upN : ∀ b r, ¬ r = -1 → lc_Nx (lc_M q 4) s b r → lc_Nx (lc_M (upd q d x) 4) (lc_S s d (c + 1)) b r := by
    intro b r hr h
    rcases h with ⟨e, _⟩ | ⟨i, hi, e, li, bi, mi⟩
    · exact absurd e hr
    · refine Or.inr ⟨i, hi, e, lo i li, by rw [Sj i li]; exact bi, ?_⟩
      rw [Sj i li]
      refine el (P := fun m => b < lc_S s d (c + 1) m → s i ≤ lc_S s d (c + 1) m) ?_ ?_
      · rw [lc_Ss]
        intro _
        have := (hs i li).2
        omega
      · intro m lm
        rw [Sj m lm]
        exact mi m lm
  have upP : ∀ b r, b ≤ c + 1 → lc_Pv (lc_M q 4) s b r → lc_Pv (lc_M (upd q d x) 4) (lc_S s d (c + 1)) b r := by
    intro b r hb h
    rcases h with ⟨e, h⟩ | ⟨i, hi, e, li, bi, mi⟩
    · refine Or.inl ⟨e, el (P := fun m => b ≤ lc_S s d (c + 1) m) ?_ ?_⟩
      · rw [lc_Ss]; exact hb
      · intro m lm
        rw [Sj m lm]
        exact h m lm
    · refine Or.inr ⟨i, hi, e, lo i li, by rw [Sj i li]; exact bi, ?_⟩
      rw [Sj i li]
      refine el (P := fun m => lc_S s d (c + 1) m < b → lc_S s d (c + 1) m ≤ s i) ?_ ?_
      · rw [lc_Ss]
        intro _
        omega
      · intro m lm
        rw [Sj m lm]
        exact mi m lm
  refine ⟨fun j hj => ?_, ?_, ?_, ?_, ?_, ?_, ?_⟩
  · by_cases e : j = d
    · rw [e, pk_us]; exact fun a => Int32.lt_irrefl (Int32.lt_trans a hx)
    · rw [pk_un e]; exact hq j hj
  · refine el (P := fun j => 1 ≤ lc_S s d (c + 1) j ∧ lc_S s d (c + 1) j ≤ c + 1) ?_ ?_
    · rw [lc_Ss]; omega
    · intro j lj
      have := hs j lj
      rw [Sj j lj]; omega
  · intro i j li lj
    refine el (P := fun i => lc_S s d (c + 1) i = lc_S s d (c + 1) j → i = j) ?_ ?_ i li
    · refine el (P := fun j => lc_S s d (c + 1) d = lc_S s d (c + 1) j → d = j) ?_ ?_ j lj
      · exact fun _ => rfl
      · intro j lj
        have := (hs j lj).2
        rw [Sj j lj, lc_Ss]
        intro e
        omega
    · intro i li
      refine el (P := fun j => lc_S s d (c + 1) i = lc_S s d (c + 1) j → i = j) ?_ ?_ j lj
      · have := (hs i li).2
        rw [Sj i li, lc_Ss]
        intro e
        omega
      · intro j lj
        rw [Sj i li, Sj j lj]
        exact inj i j li lj
  · rcases ht with ⟨e, ht⟩ | ⟨t, ht4, e, lt, bt, mt⟩
    · rw [h1 e]
      refine Or.inr ⟨d, d4, rfl, ld, by rw [lc_Ss]; omega, ?_⟩
      refine el (P := fun m => 0 < lc_S s d (c + 1) m → lc_S s d (c + 1) d ≤ lc_S s d (c + 1) m) ?_ ?_
      · exact fun _ => Nat.le_refl _
      · intro m lm
        have a := ht m lm
        have b := (hs m lm).2
        omega
    · rw [h2 (by rw [e]; exact lc_ne1 t ht4)]
      refine upN 0 hd (fun e1 => ?_) hh
      rcases hh with ⟨_, hh⟩ | ⟨i, hi, e2, _⟩
      · have a := hh t lt
        have b := (hs t lt).1
        omega
      · exact lc_ne1 i hi (e2.symm.trans e1)
  · refine Or.inr ⟨d, d4, rfl, ld, by rw [lc_Ss]; omega, ?_⟩
    refine el (P := fun m => lc_S s d (c + 1) m < c + 1 + 1 → lc_S s d (c + 1) m ≤ lc_S s d (c + 1) d) ?_ ?_
    · exact fun _ => Nat.le_refl _
    · intro m lm
      have b := (hs m lm).2
      rw [Sj m lm, lc_Ss]
      omega
  · refine el (P := fun j => lc_Nx (lc_M (upd q d x) 4) (lc_S s d (c + 1)) (lc_S s d (c + 1) j) (nx' j)) ?_ ?_
    · refine Or.inl ⟨h5, el (P := fun m => lc_S s d (c + 1) m ≤ lc_S s d (c + 1) d) (Nat.le_refl _) ?_⟩
      intro m lm
      have b := (hs m lm).2
      rw [Sj m lm, lc_Ss]
      omega
    · intro j lj
      have j4 : j < 4 := lj.1
      rw [Sj j lj]
      by_cases e : tl = nI j
      · rw [h6 j j4 (nd j lj) e]
        rw [e] at ht
        obtain ⟨_, b1, b2⟩ := lc_Pv_at j4 ht
        refine Or.inr ⟨d, d4, rfl, ld, by rw [lc_Ss]; exact b1, ?_⟩
        refine el (P := fun m => s j < lc_S s d (c + 1) m → lc_S s d (c + 1) d ≤ lc_S s d (c + 1) m) ?_ ?_
        · exact fun _ => Nat.le_refl _
        · intro m lm
          have a := b2 m lm
          have b := (hs m lm).2
          rw [Sj m lm, lc_Ss]
          omega
      · rw [h7 j j4 (nd j lj) e]
        refine upN (s j) (nx j) (fun e1 => e ?_) (hn j lj)
        have a := hn j lj
        rw [e1] at a
        refine lc_Pv_u inj ht (Or.inr ⟨j, j4, rfl, lj, by have := (hs j lj).2; omega, fun m lm _ => ?_⟩)
        rcases a with ⟨_, a⟩ | ⟨i, hi, e2, _⟩
        · exact a m lm
        · exact absurd e2.symm (lc_ne1 i hi)
  · refine el (P := fun j => lc_Pv (lc_M (upd q d x) 4) (lc_S s d (c + 1)) (lc_S s d (c + 1) j) (pv' j)) ?_ ?_
    · rw [h8, lc_Ss]
      exact upP (c + 1) tl (Nat.le_refl _) ht
    · intro j lj
      rw [Sj j lj, h9 j lj.1 (nd j lj)]
      have := (hs j lj).2
      exact upP (s j) (pv j) (by omega) (hp j lj)
/-- a live node's quantity goes down, not to 0 -/
theorem lc_set {hd tl : Int32} {nx pv q : Nat → Int32} {s : Nat → Nat} {c d : Nat} {x : Int32}
    (I : lc_I hd tl nx pv q s c) (hl : lc_M q 4 d) (hx : 0 < x) : lc_I hd tl nx pv (upd q d x) s c := by
  have x0 : ¬ x = 0 := fun e => by rw [e] at hx; exact absurd hx (by decide)
  have e : lc_M (upd q d x) 4 = lc_M q 4 := by
    funext m
    refine propext ((lc_Ma hl.1 x0).trans ⟨fun h => ?_, fun h => ?_⟩)
    · rcases h with h | h
      · rw [h]; exact hl
      · exact h.2
    · by_cases hm : m = d
      · exact Or.inl hm
      · exact Or.inr ⟨hm, h⟩
  unfold lc_I
  rw [e]
  refine ⟨fun j hj => ?_, I.2⟩
  by_cases e : j = d
  · rw [e, pk_us]; exact fun a => Int32.lt_irrefl (Int32.lt_trans a hx)
  · rw [pk_un e]; exact I.1 j hj
end
section
/-! THE REFERENCE's SCAN is lc_Nx -/
theorem lc_scan {q : Nat → Int32} {sq : Nat → Int64} {s : Nat → Nat} {b : Nat} {clk : Int64} {post : Int32 → Prop}
    (hsq : ∀ j, j < 4 → sq j = lN (s j)) (hs : ∀ j, lc_M q 4 j → s j < 2 ^ 31) (hb : b < 2 ^ 31)
    (K : ∀ r, lc_Nx (lc_M q 4) s b r → post r) :
    ∀ e i, i + e = 4 → ∀ x4, lc_Nx (lc_M q i) s b x4 → wY_nextOf_41 post (lN b) clk q sq (e + 1) x4 (nI i) := by
  intro e
  induction e with
  | zero =>
    intro i hi x4 h
    have hi : i = 4 := hi
    subst hi
    exact br_t lc_ge4 (K x4 h)
  | succ e ih =>
    intro i hi x4 h
    have i4 : i < 4 := by omega
    have hM : ∀ m, lc_M q (i + 1) m → m = i ∨ lc_M q i m := fun m hm => by
      by_cases z : m = i
      · exact Or.inl z
      · exact Or.inr ⟨by have := hm.1; omega, hm.2⟩
    have hM' : ∀ m, lc_M q i m → lc_M q (i + 1) m := fun m hm => ⟨by have := hm.1; omega, hm.2⟩
    have keep : (¬ q i = 0 → s i ≤ b ∨ ∃ t, t < 4 ∧ x4 = nI t ∧ s t ≤ s i) → lc_Nx (lc_M q (i + 1)) s b x4 := by
      intro hk
      rcases h with ⟨e, h⟩ | ⟨t, ht, e, lt, bt, mt⟩
      · refine Or.inl ⟨e, fun m hm => ?_⟩
        rcases hM m hm with z | z
        · subst z
          rcases hk hm.2 with z | ⟨t, ht, e', _⟩
          · exact z
          · exact absurd (e'.symm.trans e) (lc_ne1 t ht)
        · exact h m z
      · refine Or.inr ⟨t, ht, e, hM' t lt, bt, fun m hm hbm => ?_⟩
        rcases hM m hm with z | z
        · subst z
          rcases hk hm.2 with z | ⟨t', ht', e', z⟩
          · omega
          · cases lc_inj ht ht' (e.symm.trans e')
            exact z
        · exact mt m z hbm
    have go := fun x (hx : lc_Nx (lc_M q (i + 1)) s b x) => ih (i + 1) (by omega) x hx
    rw [wY_nextOf_41]
    dsimp only
    rw [lc_cl i4, lc_s16 i i4, hsq i i4, nI_1 i]
    refine br_f (lc_nge4 i i4) ⟨lc_in i4, ?_⟩
    by_cases z : q i = 0
    · exact br_t z (nm_e (go x4 (keep fun hn => absurd z hn)))
    · have li : lc_M q 4 i := ⟨i4, z⟩
      refine br_f z ⟨lc_in i4, ?_⟩
      by_cases hbi : s i ≤ b
      · exact br_t ((lN_le (hs i li) hb).mpr hbi) (nm_e (go x4 (keep fun _ => Or.inl hbi)))
      · refine br_f (fun a => hbi ((lN_le (hs i li) hb).mp a)) ?_
        rcases h with ⟨e, h⟩ | ⟨t, ht, e, lt, bt, mt⟩
        · subst e
          refine br_t lc_m1lt (nm_e (go (nI i) (Or.inr ⟨i, i4, rfl, ⟨by omega, z⟩, by omega, fun m hm hbm => ?_⟩)))
          rcases hM m hm with z | z
          · rw [z]; exact Nat.le_refl _
          · have := h m z
            omega
        · subst e
          have lt4 : lc_M q 4 t := ⟨ht, lt.2⟩
          rw [lc_cl ht, hsq t ht]
          refine br_f (lc_nn ht) ⟨lc_in i4, lc_in ht, ?_⟩
          by_cases hti : s t ≤ s i
          · exact br_t ((lN_le (hs t lt4) (hs i li)).mpr hti) (nm_e (go (nI t) (keep fun _ => Or.inr ⟨t, ht, rfl, hti⟩)))
          · refine br_f (fun a => hti ((lN_le (hs t lt4) (hs i li)).mp a)) (nm_e (go (nI i) (Or.inr ⟨i, i4, rfl, ⟨by omega, z⟩, by omega, fun m hm hbm => ?_⟩)))
            rcases hM m hm with z | z
            · rw [z]; exact Nat.le_refl _
            · have := mt m z hbm
              omega
theorem lc_l0 : lN 0 = 0 := by decide +kernel
theorem lc_nx {q : Nat → Int32} {sq : Nat → Int64} {s : Nat → Nat} {b c : Nat} {clk : Int64} {post : Int32 → Prop} {r : Int32}
    (hsq : ∀ j, j < 4 → sq j = lN (s j)) (hs : ∀ j, lc_M q 4 j → 1 ≤ s j ∧ s j ≤ c) (hc : c < 2 ^ 31) (hb : b < 2 ^ 31)
    (inj : ∀ i j, lc_M q 4 i → lc_M q 4 j → s i = s j → i = j) (h : lc_Nx (lc_M q 4) s b r) (hp : post r) :
    ∃ n, wY_nextOf_41 post (lN b) clk q sq n (-1) 0 := by
  have a := lc_scan (clk := clk) (post := post) hsq (fun j lj => by have := (hs j lj).2; omega) hb
    (fun r' h' => by rw [lc_Nx_u inj h' h]; exact hp) 4 0 rfl (-1) (Or.inl ⟨rfl, fun m hm => absurd hm.1 (by omega)⟩)
  rw [nI_0] at a
  exact ⟨_, a⟩
theorem lc_next {q : Nat → Int32} {sq : Nat → Int64} {s : Nat → Nat} {c : Nat} {clk : Int64} {post : Int32 → Prop} {r : Int32}
    (hsq : ∀ j, j < 4 → sq j = lN (s j)) (hs : ∀ j, lc_M q 4 j → 1 ≤ s j ∧ s j ≤ c) (hc : c < 2 ^ 31)
    (inj : ∀ i j, lc_M q 4 i → lc_M q 4 j → s i = s j → i = j) (h : lc_Nx (lc_M q 4) s 0 r) (hp : post r) :
    wpY_nextOf post (clk, q, sq) (-1) := by
  obtain ⟨n, a⟩ := lc_nx (clk := clk) (post := post) hsq hs hc (by omega) inj h hp
  rw [lc_l0] at a
  exact br_t rfl ⟨n, a⟩
/-! THE COMPONENT's WALKS of join and cancel, the post general -/
theorem lc_xj1 {post : Int32 → SX → Prop} {hd x : Int32} {nx pv q : Nat → Int32} {d : Nat} (d4 : d < 4) (hx : 0 < x) (z : q d = 0)
    (k : post 0 (nI d, nI d, upd nx d (-1), upd pv d (-1), upd q d x)) : wpX_join post (hd, -1, nx, pv, q) (nI d) x := by
  unfold wpX_join
  dsimp only
  rw [lc_cl d4, lc_s16 d d4, lc_n1]
  have i4 := lc_in d4
  have e1 := lc_nar (lc_s16 d d4)
  have e2 := lc_fit (lc_s16 d d4)
  exact br_f (lc_nn d4) (br_t (lc_le3 d d4) (br_t hx ⟨i4, br_t z ⟨i4, nm_e ⟨i4, nm_e ⟨i4, nm_e (br_f lc_m1le ⟨e1, e2, e1, e2, k⟩)⟩⟩⟩⟩))
theorem lc_xj2 {post : Int32 → SX → Prop} {hd x : Int32} {nx pv q : Nat → Int32} {d t : Nat} (d4 : d < 4) (t4 : t < 4) (hx : 0 < x) (z : q d = 0)
    (k : post 0 (hd, nI d, upd (upd nx d (-1)) t (nI d), upd pv d (nI t), upd q d x)) : wpX_join post (hd, nI t, nx, pv, q) (nI d) x := by
  unfold wpX_join
  dsimp only
  rw [lc_cl d4, lc_s16 d d4, lc_n1, lc_nI t4, lc_nI d4, lc_cl t4]
  have i4 := lc_in d4
  have e1 := lc_nar (lc_s16 d d4)
  have e2 := lc_fit (lc_s16 d d4)
  exact br_f (lc_nn d4) (br_t (lc_le3 d d4) (br_t hx ⟨i4, br_t z ⟨i4, nm_e ⟨i4, nm_e ⟨i4, nm_e (br_t (lc_pp t4) ⟨lc_in t4, nm_e ⟨e1, e2, k⟩⟩)⟩⟩⟩⟩))
theorem lc_yj {post : Int32 → SY → Prop} {x : Int32} {q : Nat → Int32} {sq : Nat → Int64} {d c : Nat} (d4 : d < 4) (hx : 0 < x) (z : q d = 0)
    (k : post 0 (lN (c + 1), upd q d x, vp_updL sq d (lN (c + 1)))) : wpY_join post (lN c, q, sq) (nI d) x := by
  unfold wpY_join
  dsimp only
  rw [lc_cl d4, lN_1 c]
  have i4 := lc_in d4
  exact br_f (lc_nn d4) (br_t (lc_le3 d d4) (br_t hx ⟨i4, br_t z ⟨i4, nm_e (nm_e ⟨i4, nm_e k⟩)⟩⟩))
theorem lc_c81 {post : Int32 → SX → Prop} {x2 hd tl : Int32} {nx pv q : Nat → Int32} {d : Nat} (d4 : d < 4)
    (k : post x2 (hd, tl, upd nx d (-1), upd pv d (-1), upd q d 0)) : wX_cancel_81 post (nI d) x2 hd tl nx pv q := by
  unfold wX_cancel_81
  rw [lc_cl d4, lc_n1]
  have i4 := lc_in d4
  exact ⟨i4, nm_e ⟨i4, nm_e ⟨i4, nm_e k⟩⟩⟩
theorem lc_c60a {post : Int32 → SX → Prop} {x2 x3 hd tl : Int32} {nx pv q : Nat → Int32} {d : Nat} (d4 : d < 4) (h3 : x3.toInt16.toInt32 = x3)
    (k : post x2 (hd, x3, upd nx d (-1), upd pv d (-1), upd q d 0)) : wX_cancel_60 post (nI d) x2 x3 (-1) hd tl nx pv q := by
  unfold wX_cancel_60
  exact br_f lc_m1le ⟨lc_nar h3, lc_fit h3, lc_c81 d4 k⟩
theorem lc_c60b {post : Int32 → SX → Prop} {x2 x3 hd tl : Int32} {nx pv q : Nat → Int32} {d e : Nat} (d4 : d < 4) (e4 : e < 4) (h3 : x3.toInt16.toInt32 = x3)
    (k : post x2 (hd, tl, upd nx d (-1), upd (upd pv e x3) d (-1), upd q d 0)) : wX_cancel_60 post (nI d) x2 x3 (nI e) hd tl nx pv q := by
  unfold wX_cancel_60
  rw [lc_cl e4, lc_v16 h3]
  exact br_t (lc_pp e4) ⟨lc_in e4, nm_e (lc_c81 d4 k)⟩
theorem lc_xc1 {post : Int32 → SX → Prop} {hd tl n : Int32} {nx pv q : Nat → Int32} {d : Nat} (d4 : d < 4) (z : ¬ q d = 0) (ep : pv d = -1) (en : nx d = n)
    (h : n.toInt16.toInt32 = n) (k : wX_cancel_60 post (nI d) (q d) (-1) n n tl nx pv q) : wpX_cancel post (hd, tl, nx, pv, q) (nI d) := by
  unfold wpX_cancel
  dsimp only
  rw [lc_cl d4]
  have i4 := lc_in d4
  exact br_f (lc_nn d4) (br_t (lc_le3 d d4) ⟨i4, nm_e (br_f z ⟨i4, nm_r ep ⟨i4, nm_r en (br_f lc_m1le ⟨lc_nar h, lc_fit h, k⟩)⟩⟩)⟩)
theorem lc_xc2 {post : Int32 → SX → Prop} {hd tl n : Int32} {nx pv q : Nat → Int32} {d p : Nat} (d4 : d < 4) (z : ¬ q d = 0) (p4 : p < 4) (ep : pv d = nI p) (en : nx d = n)
    (h : n.toInt16.toInt32 = n) (k : wX_cancel_60 post (nI d) (q d) (nI p) n hd tl (upd nx p n) pv q) : wpX_cancel post (hd, tl, nx, pv, q) (nI d) := by
  unfold wpX_cancel
  dsimp only
  rw [lc_cl d4]
  have i4 := lc_in d4
  exact br_f (lc_nn d4) (br_t (lc_le3 d d4) ⟨i4, nm_e (br_f z ⟨i4, nm_r ep ⟨i4, nm_r en (br_t (lc_pp p4) ⟨lc_in p4, nm_r (e' := upd nx p n) (by rw [lc_cl p4, lc_v16 h]) k⟩)⟩⟩)⟩)
theorem lc_yc {post : Int32 → SY → Prop} {clk : Int64} {q : Nat → Int32} {sq : Nat → Int64} {d : Nat} (d4 : d < 4)
    (k : post (q d) (clk, upd q d 0, sq)) : wpY_cancel post (clk, q, sq) (nI d) := by
  unfold wpY_cancel
  dsimp only
  rw [lc_cl d4]
  have i4 := lc_in d4
  exact br_f (lc_nn d4) (br_t (lc_le3 d d4) ⟨i4, nm_e ⟨i4, nm_e k⟩⟩)
end
section
/-! FILL: both loops in lockstep, one outcome -/
theorem lc_f78 {post : Int32 → SX → Prop} {J : Int32 → Int32 → Int32 → Int32 → (Nat → Int32) → (Nat → Int32) → (Nat → Int32) → Prop}
    {x1 x2 hd tl : Int32} {nx pv q : Nat → Int32} {d : Nat} (d4 : d < 4)
    (k : J x1 (x2 + 1) hd tl (upd nx d (-1)) (upd pv d (-1)) (upd q d 0)) : wX_fill_78 post J x1 x2 (nI d) hd tl nx pv q := by
  unfold wX_fill_78
  rw [lc_cl d4, lc_n1]
  have i4 := lc_in d4
  exact ⟨i4, nm_e ⟨i4, nm_e ⟨i4, nm_e (nm_e k)⟩⟩⟩
/-- the component's round that takes the head off: h the head, b its quantity -/
theorem lc_xf1 {post : Int32 → SX → Prop} {x2 tl : Int32} {nx pv q : Nat → Int32} {h a b n : Nat} (h4 : h < 4) (a0 : 0 < a) (aM : a < 2 ^ 31) (eb : q h = nI b) (ba : b ≤ a)
    (en : nx h = -1) (k : wX_fill_8 post n (nI (a - b)) (x2 + 1) (-1) (-1) (upd nx h (-1)) (upd pv h (-1)) (upd q h 0)) :
    wX_fill_8 post (n + 1) (nI a) x2 (nI h) tl nx pv q := by
  rw [wX_fill_8]
  dsimp only
  rw [lc_cl h4]
  have i4 := lc_in h4
  exact br_f (nI_nle a0 aM) (br_f (lc_nn h4) ⟨i4, nm_r eb (br_f (nI_nlt ba aM) (nm_r (pk_sub ba) ⟨i4, nm_r en ⟨lc_nar lc_m16, lc_fit lc_m16, br_f lc_m1le (lc_f78 h4 k)⟩⟩))⟩)
theorem lc_xf2 {post : Int32 → SX → Prop} {x2 tl : Int32} {nx pv q : Nat → Int32} {h e a b n : Nat} (h4 : h < 4) (e4 : e < 4) (a0 : 0 < a) (aM : a < 2 ^ 31) (eb : q h = nI b) (ba : b ≤ a)
    (en : nx h = nI e) (k : wX_fill_8 post n (nI (a - b)) (x2 + 1) (nI e) tl (upd nx h (-1)) (upd (upd pv e (-1)) h (-1)) (upd q h 0)) :
    wX_fill_8 post (n + 1) (nI a) x2 (nI h) tl nx pv q := by
  rw [wX_fill_8]
  dsimp only
  rw [lc_cl h4]
  have i4 := lc_in h4
  exact br_f (nI_nle a0 aM) (br_f (lc_nn h4) ⟨i4, nm_r eb (br_f (nI_nlt ba aM) (nm_r (pk_sub ba) ⟨i4, nm_r en ⟨lc_nar (lc_s16 e e4), lc_fit (lc_s16 e e4), br_t (lc_pp e4) ⟨lc_in e4, nm_r (e' := upd pv e (-1)) (by rw [lc_cl e4, lc_n1]) (lc_f78 h4 k)⟩⟩⟩))⟩)
theorem lc_yf {post : Int32 → SY → Prop} {clk : Int64} {x2 : Int32} {q : Nat → Int32} {sq : Nat → Int64} {h a b n : Nat} (h4 : h < 4) (a0 : 0 < a) (aM : a < 2 ^ 31) (eb : q h = nI b) (ba : b ≤ a)
    (k : wpY_nextOf (fun r => wY_fill_8 post clk n (nI (a - b)) (x2 + 1) r (upd q h 0) sq) (clk, upd q h 0, sq) (-1)) :
    wY_fill_8 post clk (n + 1) (nI a) x2 (nI h) q sq := by
  rw [wY_fill_8]
  dsimp only
  rw [lc_cl h4, eb]
  have i4 := lc_in h4
  exact br_f (nI_nle a0 aM) (br_f (lc_nn h4) ⟨i4, br_f (nI_nlt ba aM) ⟨i4, nm_r (pk_sub ba) ⟨i4, nm_e (nm_e k)⟩⟩⟩)
theorem lc_fill {c : Nat} {s : Nat → Nat} {sq : Nat → Int64} (hsq : ∀ j, j < 4 → sq j = lN (s j)) (hc : c < 2 ^ 31) :
    ∀ n a x2 hd tl nx pv q, a < n → a < 2 ^ 31 → lc_I hd tl nx pv q s c →
    ∃ r hd' tl' nx' pv' q', lc_I hd' tl' nx' pv' q' s c ∧
      (∀ post : Int32 → SX → Prop, post r (hd', tl', nx', pv', q') → wX_fill_8 post n (nI a) x2 hd tl nx pv q) ∧
      (∀ post : Int32 → SY → Prop, post r (lN c, q', sq) → wY_fill_8 post (lN c) n (nI a) x2 hd q sq) := by
  intro n
  induction n with
  | zero => intro a x2 hd tl nx pv q h; exact absurd h (Nat.not_lt_zero _)
  | succ n ih =>
    intro a x2 hd tl nx pv q an aM I
    by_cases a0 : a = 0
    · have h0 : nI a ≤ 0 := by rw [a0, nI_0]; exact Int32.le_refl _
      exact ⟨x2, hd, tl, nx, pv, q, I, fun _ hp => br_t h0 hp, fun _ hp => br_t h0 hp⟩
    have a0 : 0 < a := by omega
    have na := nI_nle a0 aM
    obtain ⟨hq, hs, inj, hh, ht, hn, hp⟩ := id I
    rcases id hh with ⟨e, _⟩ | ⟨h, h4, e, lh, bh, mh⟩
    · subst e
      exact ⟨x2, -1, tl, nx, pv, q, I, fun _ hp => br_f na (br_t lc_m1lt hp), fun _ hp => br_f na (br_t lc_m1lt hp)⟩
    subst e
    obtain ⟨b, bM, eb⟩ := nI_of (hq h h4)
    have b0 : 0 < b := by
      rcases Nat.eq_zero_or_pos b with z | z
      · exact absurd (by rw [eb, z, nI_0]) lh.2
      · exact z
    by_cases ba : b ≤ a
    · have ep : pv h = -1 := by
        rcases hp h lh with ⟨e, _⟩ | ⟨i, hi, e, li, bi, _⟩
        · exact e
        · have := mh i li (by have := (hs i li).1; omega)
          omega
      rcases hn h lh with ⟨en, _⟩ | ⟨e, e4, en, le, be, _⟩
      · have I' : lc_I (-1) (-1) (upd nx h (-1)) (upd pv h (-1)) (upd q h 0) s c :=
          lc_del I lh en ep (fun _ => rfl) (fun z => absurd rfl z) (fun _ => rfl) (fun z => absurd rfl z)
            (fun j hj _ z => absurd z.symm (lc_ne1 j hj)) (fun j _ jd _ => pk_un jd)
            (fun j hj _ z => absurd z.symm (lc_ne1 j hj)) (fun j _ jd _ => pk_un jd)
        obtain ⟨r, hd', tl', nx', pv', q', J, hX, hY⟩ := ih (a - b) (x2 + 1) _ _ _ _ _ (by omega) (by omega) I'
        exact ⟨r, hd', tl', nx', pv', q', J, fun post k => lc_xf1 h4 a0 aM eb ba en (hX post k),
          fun post k => lc_yf h4 a0 aM eb ba (lc_next hsq I'.2.1 hc I'.2.2.1 I'.2.2.2.1 (hY post k))⟩
      · have eh : e ≠ h := fun z => by rw [z] at be; omega
        have I' : lc_I (nI e) tl (upd nx h (-1)) (upd (upd pv e (-1)) h (-1)) (upd q h 0) s c :=
          lc_del I lh en ep (fun _ => rfl) (fun z => absurd rfl z) (fun z => absurd z (lc_ne1 e e4)) (fun _ => rfl)
            (fun j hj _ z => absurd z.symm (lc_ne1 j hj)) (fun j _ jd _ => pk_un jd)
            (fun j hj jd z => by rw [pk_un jd, lc_inj e4 hj z, pk_us])
            (fun j hj jd z => by rw [pk_un jd, pk_un (fun w => z (congrArg nI w.symm))])
        obtain ⟨r, hd', tl', nx', pv', q', J, hX, hY⟩ := ih (a - b) (x2 + 1) _ _ _ _ _ (by omega) (by omega) I'
        exact ⟨r, hd', tl', nx', pv', q', J, fun post k => lc_xf2 h4 e4 a0 aM eb ba en (hX post k),
          fun post k => lc_yf h4 a0 aM eb ba (lc_next hsq I'.2.1 hc I'.2.2.1 I'.2.2.2.1 (hY post k))⟩
    · have ab : a < b := by omega
      obtain ⟨m, rfl⟩ : ∃ m, n = m + 1 := ⟨n - 1, by omega⟩
      have I' : lc_I (nI h) tl nx pv (upd q h (nI (b - a))) s c :=
        lc_set I lh (by have := nI_lt (a := 0) (b := b - a) (by omega) (by omega); rw [nI_0] at this; exact this)
      have i4 := lc_in h4
      have z0 : (0 : Int32) ≤ 0 := Int32.le_refl _
      refine ⟨x2, nI h, tl, nx, pv, _, I', fun post k => ?_, fun post k => ?_⟩
      · rw [wX_fill_8]
        dsimp only
        rw [lc_cl h4]
        exact br_f na (br_f (lc_nn h4) ⟨i4, nm_r eb (br_t (nI_lt ab bM) ⟨i4, nm_r (e' := upd q h (nI (b - a))) (by rw [pk_sub (by omega)]) (br_t z0 k)⟩)⟩)
      · rw [wY_fill_8]
        dsimp only
        rw [lc_cl h4, eb]
        exact br_f na (br_f (lc_nn h4) ⟨i4, br_t (nI_lt ab bM) ⟨i4, i4, nm_r (e' := upd q h (nI (b - a))) (by rw [pk_sub (by omega)]) (br_t z0 k)⟩⟩)
end
section
/-- the relation: one quantity table; the reference's sequence numbers s below its clock c; the component's links by them -/
def i_Rel (k : Nat) (u : SX) (v : SY) : Prop :=
  ∃ (hd tl : Int32) (nx pv q : Nat → Int32) (sq : Nat → Int64) (s : Nat → Nat) (c : Nat),
    u = (hd, tl, nx, pv, q) ∧ v = (lN c, q, sq) ∧ c ≤ k ∧ (∀ j, j < 4 → sq j = lN (s j)) ∧ lc_I hd tl nx pv q s c
theorem i_up {k : Nat} {u : SX} {v : SY} (h : i_Rel k u v) : i_Rel (k + 3) u v := by
  obtain ⟨hd, tl, nx, pv, q, sq, s, c, e1, e2, hc, h⟩ := h
  exact ⟨hd, tl, nx, pv, q, sq, s, c, e1, e2, by omega, h⟩
theorem lc_init {post : SX → Prop} (K : ∀ nx pv, post (-1, -1, nx, pv, fun _ => 0)) :
    ∀ e i, i + e = 4 → ∀ nx pv, wX_init_37 post (-1) (-1) (e + 1) (nI i) nx pv (fun _ => 0) := by
  intro e
  induction e with
  | zero =>
    intro i hi nx pv
    have hi : i = 4 := hi
    subst hi
    exact br_t lc_ge4 (K nx pv)
  | succ e ih =>
    intro i hi nx pv
    have i4 := lc_in (show i < 4 by omega)
    exact br_f (lc_nge4 i (by omega)) ⟨i4, nm_e ⟨i4, nm_e ⟨i4, nm_r (e' := fun _ => 0) (lc_up0 rfl) (nm_r (nI_1 i) (ih (i + 1) (by omega) _ _))⟩⟩⟩
theorem i_vc0 : wpX_init (fun u => wpY_init (fun v => i_Rel 0 u v)) := by
  have a := lc_init (post := fun u => wpY_init (fun v => i_Rel 0 u v)) (fun nx pv => by
    have no : ∀ m, ¬ lc_M (fun _ => 0) 4 m := fun m hm => hm.2 rfl
    exact ⟨-1, -1, nx, pv, fun _ => 0, fun _ => 0, fun _ => 0, 0, rfl, by rw [lc_l0], Nat.le_refl _, fun j _ => lc_l0.symm,
      fun j _ => Int32.lt_irrefl, fun j h => absurd h (no j), fun i j h => absurd h (no i),
      Or.inl ⟨rfl, fun m h => absurd h (no m)⟩, Or.inl ⟨rfl, fun m h => absurd h (no m)⟩,
      fun j h => absurd h (no j), fun j h => absurd h (no j)⟩) 4 0 rfl (fun _ => 0) (fun _ => 0)
  rw [nI_0] at a
  exact ⟨_, a⟩
theorem i_vc_join {k : Nat} {u : SX} {v : SY} (I : i_Rel k u v) (hk : k + 3 ≤ 1536) (v1 : Int32) (v2 : Int32) : wpX_join (fun r u' => wpY_join (fun r' v' => r' = r ∧ i_Rel (k + 3) u' v') v v1 v2) u v1 v2 := by
  have R := i_up I
  obtain ⟨hd, tl, nx, pv, q, sq, s, c, rfl, rfl, hc, hsq, I⟩ := I
  rcases lc_ix v1 with h | ⟨h, h3⟩ | ⟨d, d4, rfl⟩
  · exact br_t h (br_t h ⟨rfl, R⟩)
  · exact br_f h (br_f h3 (br_f h (br_f h3 ⟨rfl, R⟩)))
  · have n0 := lc_nn d4
    have l3 := lc_le3 d d4
    have i4 := lc_in d4
    by_cases hp : 0 < v2
    · by_cases z : q d = 0
      · have sq' : ∀ j, j < 4 → vp_updL sq d (lN (c + 1)) j = lN (lc_S s d (c + 1) j) := fun j hj => by
          by_cases e : j = d
          · rw [e, pk_uLs, lc_Ss]
          · rw [pk_uLn e, lc_Sn e, hsq j hj]
        rcases id I.2.2.2.2.1 with ⟨e, _⟩ | ⟨t, t4, e, lt, _⟩
        · subst e
          refine lc_xj1 d4 hp z (lc_yj d4 hp z ⟨rfl, _, _, _, _, _, _, _, _, rfl, rfl, by omega, sq', ?_⟩)
          exact lc_add I d4 z hp (fun _ => rfl) (fun w => absurd rfl w) pk_us
            (fun j hj _ w => absurd w.symm (lc_ne1 j hj)) (fun j _ jd _ => pk_un jd) pk_us (fun j _ jd => pk_un jd)
        · subst e
          have td : d ≠ t := fun w => lt.2 (w ▸ z)
          refine lc_xj2 d4 t4 hp z (lc_yj d4 hp z ⟨rfl, _, _, _, _, _, _, _, _, rfl, rfl, by omega, sq', ?_⟩)
          exact lc_add I d4 z hp (fun w => absurd w (lc_ne1 t t4)) (fun _ => rfl) (by rw [pk_un td, pk_us])
            (fun j hj _ w => by rw [lc_inj t4 hj w, pk_us])
            (fun j hj jd w => by rw [pk_un (fun y => w (congrArg nI y.symm)), pk_un jd]) pk_us (fun j _ jd => pk_un jd)
      · have z' : ¬ q (nI d).toNatClampNeg = 0 := by rw [lc_cl d4]; exact z
        exact br_f n0 (br_t l3 (br_t hp ⟨i4, br_f z' (br_f n0 (br_t l3 (br_t hp ⟨i4, br_f z' ⟨rfl, R⟩⟩)))⟩))
    · exact br_f n0 (br_t l3 (br_f hp (br_f n0 (br_t l3 (br_f hp ⟨rfl, R⟩)))))
theorem i_vc_cancel {k : Nat} {u : SX} {v : SY} (I : i_Rel k u v) (hk : k + 3 ≤ 1536) (v1 : Int32) : wpX_cancel (fun r u' => wpY_cancel (fun r' v' => r' = r ∧ i_Rel (k + 3) u' v') v v1) u v1 := by
  have R := i_up I
  obtain ⟨hd, tl, nx, pv, q, sq, s, c, rfl, rfl, hc, hsq, I⟩ := I
  rcases lc_ix v1 with h | ⟨h, h3⟩ | ⟨d, d4, rfl⟩
  · exact br_t h (br_t h ⟨rfl, R⟩)
  · exact br_f h (br_f h3 (br_f h (br_f h3 ⟨rfl, R⟩)))
  · have n0 := lc_nn d4
    have l3 := lc_le3 d d4
    have i4 := lc_in d4
    by_cases z : q d = 0
    · have z' : q (nI d).toNatClampNeg = 0 := by rw [lc_cl d4]; exact z
      refine br_f n0 (br_t l3 ⟨i4, nm_r z' (br_t rfl (lc_yc d4 ⟨z, ?_⟩))⟩)
      rw [lc_up0 z]
      exact R
    · have ld : lc_M q 4 d := ⟨d4, z⟩
      rcases I.2.2.2.2.2.2 d ld with ⟨ep, _⟩ | ⟨p, p4, ep, lp, _⟩
      · rcases I.2.2.2.2.2.1 d ld with ⟨en, _⟩ | ⟨e, e4, en, le, be, _⟩
        · refine lc_xc1 d4 z ep en lc_m16 (lc_c60a d4 lc_m16 (lc_yc d4 ⟨rfl, _, _, _, _, _, _, _, _, rfl, rfl, by omega, hsq, ?_⟩))
          exact lc_del I ld en ep (fun _ => rfl) (fun w => absurd rfl w) (fun _ => rfl) (fun w => absurd rfl w)
            (fun j hj _ w => absurd w.symm (lc_ne1 j hj)) (fun j _ jd _ => pk_un jd)
            (fun j hj _ w => absurd w.symm (lc_ne1 j hj)) (fun j _ jd _ => pk_un jd)
        · refine lc_xc1 d4 z ep en (lc_s16 e e4) (lc_c60b d4 e4 lc_m16 (lc_yc d4 ⟨rfl, _, _, _, _, _, _, _, _, rfl, rfl, by omega, hsq, ?_⟩))
          exact lc_del I ld en ep (fun _ => rfl) (fun w => absurd rfl w) (fun w => absurd w (lc_ne1 e e4)) (fun _ => rfl)
            (fun j hj _ w => absurd w.symm (lc_ne1 j hj)) (fun j _ jd _ => pk_un jd)
            (fun j hj jd w => by rw [pk_un jd, lc_inj e4 hj w, pk_us])
            (fun j hj jd w => by rw [pk_un jd, pk_un (fun y => w (congrArg nI y.symm))])
      · rcases I.2.2.2.2.2.1 d ld with ⟨en, _⟩ | ⟨e, e4, en, le, be, _⟩
        · refine lc_xc2 d4 z p4 ep en lc_m16 (lc_c60a d4 (lc_s16 p p4) (lc_yc d4 ⟨rfl, _, _, _, _, _, _, _, _, rfl, rfl, by omega, hsq, ?_⟩))
          exact lc_del I ld en ep (fun w => absurd w (lc_ne1 p p4)) (fun _ => rfl) (fun _ => rfl) (fun w => absurd rfl w)
            (fun j hj jd w => by rw [pk_un jd, lc_inj p4 hj w, pk_us])
            (fun j hj jd w => by rw [pk_un jd, pk_un (fun y => w (congrArg nI y.symm))])
            (fun j hj _ w => absurd w.symm (lc_ne1 j hj)) (fun j _ jd _ => pk_un jd)
        · refine lc_xc2 d4 z p4 ep en (lc_s16 e e4) (lc_c60b d4 e4 (lc_s16 p p4) (lc_yc d4 ⟨rfl, _, _, _, _, _, _, _, _, rfl, rfl, by omega, hsq, ?_⟩))
          exact lc_del I ld en ep (fun w => absurd w (lc_ne1 p p4)) (fun _ => rfl) (fun w => absurd w (lc_ne1 e e4)) (fun _ => rfl)
            (fun j hj jd w => by rw [pk_un jd, lc_inj p4 hj w, pk_us])
            (fun j hj jd w => by rw [pk_un jd, pk_un (fun y => w (congrArg nI y.symm))])
            (fun j hj jd w => by rw [pk_un jd, lc_inj e4 hj w, pk_us])
            (fun j hj jd w => by rw [pk_un jd, pk_un (fun y => w (congrArg nI y.symm))])
theorem i_vc_fill {k : Nat} {u : SX} {v : SY} (I : i_Rel k u v) (hk : k + 3 ≤ 1536) (v1 : Int32) : wpX_fill (fun r u' => wpY_fill (fun r' v' => r' = r ∧ i_Rel (k + 3) u' v') v v1) u v1 := by
  have R := i_up I
  obtain ⟨hd, tl, nx, pv, q, sq, s, c, rfl, rfl, hc, hsq, I⟩ := I
  have cM : c < 2 ^ 31 := by omega
  have hY : ∀ post : Int32 → Prop, post hd → wpY_nextOf post (lN c, q, sq) (-1) := fun post hp => lc_next hsq I.2.1 cM I.2.2.1 I.2.2.2.1 hp
  by_cases h : 0 < v1
  · obtain ⟨a, aM, rfl⟩ := nI_of (x := v1) (fun w => Int32.lt_irrefl (Int32.lt_trans h w))
    obtain ⟨r, hd', tl', nx', pv', q', J, fX, fY⟩ := lc_fill hsq cM (a + 1) a 0 hd tl nx pv q (by omega) aM I
    exact br_t h ⟨a + 1, fX _ (hY _ ⟨a + 1, fY _ ⟨rfl, hd', tl', nx', pv', q', sq, s, c, rfl, rfl, by omega, hsq, J⟩⟩)⟩
  · exact br_f h (hY _ ⟨1, br_t (Int32.not_lt.mp h) ⟨rfl, R⟩⟩)
theorem i_vc_nextOf {k : Nat} {u : SX} {v : SY} (I : i_Rel k u v) (hk : k + 3 ≤ 1536) (v1 : Int32) : wpX_nextOf (fun r => wpY_nextOf (fun r' => r' = r ∧ i_Rel (k + 3) u v) v v1) u v1 := by
  have R := i_up I
  obtain ⟨hd, tl, nx, pv, q, sq, s, c, rfl, rfl, hc, hsq, I⟩ := I
  have cM : c < 2 ^ 31 := by omega
  by_cases h1 : v1 = -1
  · subst h1
    exact br_t rfl (lc_next hsq I.2.1 cM I.2.2.1 I.2.2.2.1 ⟨rfl, R⟩)
  rcases lc_ix v1 with h | ⟨h, h3⟩ | ⟨d, d4, rfl⟩
  · exact br_f h1 (br_t h (br_f h1 (br_t h ⟨rfl, R⟩)))
  · exact br_f h1 (br_f h (br_f h3 (br_f h1 (br_f h (br_t (Int32.not_le.mp h3) ⟨rfl, R⟩)))))
  · have n0 := lc_nn d4
    have l3 := lc_le3 d d4
    have g3 := lc_nlt3 d d4
    have i4 := lc_in d4
    by_cases z : q (nI d).toNatClampNeg = 0
    · exact br_f h1 (br_f n0 (br_t l3 ⟨i4, br_t z (br_f h1 (br_f n0 (br_f g3 ⟨i4, br_t z ⟨rfl, R⟩⟩)))⟩))
    · have ld : lc_M q 4 d := ⟨d4, by rw [lc_cl d4] at z; exact z⟩
      have sd := (I.2.1 d ld).2
      have e : sq (nI d).toNatClampNeg = lN (s d) := by rw [lc_cl d4, hsq d d4]
      have en : nx (nI d).toNatClampNeg = nx d := by rw [lc_cl d4]
      refine br_f h1 (br_f n0 (br_t l3 ⟨i4, br_f z ⟨i4, br_f h1 (br_f n0 (br_f g3 ⟨i4, br_f z ⟨i4, nm_r e ?_⟩⟩))⟩⟩))
      rw [en]
      exact lc_nx hsq I.2.1 cM (by omega) I.2.2.1 (I.2.2.2.2.2.1 d ld) ⟨rfl, R⟩
theorem i_vc_qtyAt {k : Nat} {u : SX} {v : SY} (I : i_Rel k u v) (hk : k + 3 ≤ 1536) (v1 : Int32) : wpX_qtyAt (fun r => wpY_qtyAt (fun r' => r' = r ∧ i_Rel (k + 3) u v) v v1) u v1 := by
  have R := i_up I
  obtain ⟨hd, tl, nx, pv, q, sq, s, c, rfl, rfl, hc, hsq, I⟩ := I
  rcases lc_ix v1 with h | ⟨h, h3⟩ | ⟨d, d4, rfl⟩
  · exact br_t h (br_t h ⟨rfl, R⟩)
  · exact br_f h (br_f h3 (br_f h (br_f h3 ⟨rfl, R⟩)))
  · exact br_f (lc_nn d4) (br_t (lc_le3 d d4) ⟨lc_in d4, br_f (lc_nn d4) (br_t (lc_le3 d d4) ⟨lc_in d4, rfl, R⟩)⟩)
end

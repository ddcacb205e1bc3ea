section
theorem pk_us {f : Nat → Int32} {k : Nat} {x : Int32} : upd f k x k = x := if_pos rfl
theorem pk_un {f : Nat → Int32} {k j : Nat} {x : Int32} (h : j ≠ k) : upd f k x j = f j := if_neg h
theorem pk_mul (a b : Nat) : nI a * nI b = nI (a * b) := (Int32.ofNat_mul a b).symm
theorem pk_le {x y : Int32} {A B : Prop} (a b : Nat) (f : a ≤ b → A) (g : b < a → B) (hx : x = nI a := by rfl) (hy : y = nI b := by rfl) (ha : a < 2 ^ 31 := by omega) (hb : b < 2 ^ 31 := by omega) : (x ≤ y → A) ∧ (¬ x ≤ y → B) := by
  subst hx hy
  rw [nI_leI ha hb]
  exact ⟨f, fun z => g (by omega)⟩
end
section
/-- the two tables: q is X's pivot vector as naturals, a permutation of 0 .. 3; X's physical row q a is Y's row a -/
def pp_Q (q : Nat → Nat) (cx p cy : Nat → Int32) : Prop :=
  (∀ a, a < 4 → p a = nI (q a) ∧ q a < 4) ∧ (∀ a b, a < 4 → b < 4 → q a = q b → a = b) ∧
  (∀ a b, a < 4 → b < 4 → cx (q a * 4 + b) = cy (a * 4 + b))
/-- the exchange of i and j -/
def pp_s (i j a : Nat) : Nat := if a = j then i else if a = i then j else a
theorem pp_s_lt {i j a : Nat} (hi : i < 4) (hj : j < 4) (ha : a < 4) : pp_s i j a < 4 := by
  unfold pp_s
  split
  · exact hi
  · split
    · exact hj
    · exact ha
theorem pp_s_inj {i j a b : Nat} (h : pp_s i j a = pp_s i j b) : a = b := by
  unfold pp_s at h
  split at h <;> split at h <;> (try split at h) <;> (try split at h) <;> omega
theorem pp_s_l {i j : Nat} (h : i ≠ j) : pp_s i j i = j := by
  unfold pp_s
  rw [if_neg h, if_pos rfl]
theorem pp_s_r {i j : Nat} : pp_s i j j = i := if_pos rfl
theorem pp_s_o {i j a : Nat} (hi : a ≠ i) (hj : a ≠ j) : pp_s i j a = a := by
  unfold pp_s
  rw [if_neg hj, if_neg hi]
theorem pp_upd {p : Nat → Int32} {i j : Nat} (a : Nat) : upd (upd p i (p j)) j (p i) a = p (pp_s i j a) := by
  by_cases h : a = j
  · subst h
    rw [pk_us, pp_s_r]
  · rw [pk_un h]
    by_cases g : a = i
    · subst g
      rw [pk_us, pp_s_l h]
    · rw [pk_un g, pp_s_o g h]
theorem pp_put {q : Nat → Nat} {cx p cy : Nat → Int32} {i j : Nat} (Q : pp_Q q cx p cy) (hi : i < 4) (hj : j < 4) (x : Int32) : pp_Q q (upd cx (q i * 4 + j) x) p (upd cy (i * 4 + j) x) := by
  obtain ⟨h1, h2, h3⟩ := Q
  refine ⟨h1, h2, fun a b ha hb => ?_⟩
  by_cases e : a = i ∧ b = j
  · obtain ⟨rfl, rfl⟩ := e
    rw [pk_us, pk_us]
  · have n1 : a * 4 + b ≠ i * 4 + j := by omega
    have n2 : q a * 4 + b ≠ q i * 4 + j := by
      intro z
      have e1 : q a = q i := by omega
      exact e ⟨h2 a i ha hi e1, by omega⟩
    rw [pk_un n2, pk_un n1]
    exact h3 a b ha hb
theorem pp_swap {q : Nat → Nat} {cx p cy cy' : Nat → Int32} {i j : Nat} (Q : pp_Q q cx p cy) (hi : i < 4) (hj : j < 4) (h : ∀ a b, a < 4 → b < 4 → cy' (a * 4 + b) = cy (pp_s i j a * 4 + b)) : pp_Q (fun a => q (pp_s i j a)) cx (upd (upd p i (p j)) j (p i)) cy' := by
  obtain ⟨h1, h2, h3⟩ := Q
  refine ⟨fun a ha => ?_, fun a b ha hb e => ?_, fun a b ha hb => ?_⟩
  · rw [pp_upd]
    exact h1 _ (pp_s_lt hi hj ha)
  · exact pp_s_inj (h2 _ _ (pp_s_lt hi hj ha) (pp_s_lt hi hj hb) e)
  · rw [h a b ha hb]
    exact h3 _ b (pp_s_lt hi hj ha) hb
theorem pp_settle {q : Nat → Nat} {cx p cy t cx' p' : Nat → Int32} (Q : pp_Q q cx p cy) (ht : ∀ a b, a < 4 → b < 4 → t (a * 4 + b) = cx (q a * 4 + b)) (hc : ∀ m, m < 16 → cx' m = t m) (hp : ∀ m, m < 4 → p' m = nI m) : pp_Q (fun a => a) cx' p' cy := by
  refine ⟨fun a ha => ⟨hp a ha, ha⟩, fun a b _ _ e => e, fun a b ha hb => ?_⟩
  show cx' (a * 4 + b) = _
  rw [hc _ (by omega), ht a b ha hb]
  exact Q.2.2 a b ha hb
theorem pp_ix (a b : Nat) : nI a * 4 + nI b = nI (a * 4 + b) := by
  have h : (4 : Int32) = nI 4 := by decide +kernel
  rw [h, pk_mul, nI_add]
theorem pp_in {a b : Nat} (ha : a < 4) (hb : b < 4) : vp_in (nI a * 4 + nI b) 16 := by
  rw [pp_ix]
  exact vp_in_nI (by omega) (by omega)
theorem pp_cl {a b : Nat} (ha : a < 4) (hb : b < 4) : (nI a * 4 + nI b).toNatClampNeg = a * 4 + b := by
  rw [pp_ix]
  exact nI_clamp (by omega)
theorem pp_c4 {a : Nat} (ha : a < 4) : (nI a).toNatClampNeg = a := nI_clamp (by omega)
theorem pp_dom (x : Int32) : x < 0 ∨ (¬ x < 0 ∧ 3 < x ∧ ¬ x ≤ 3) ∨ ∃ i : Nat, i < 4 ∧ x = nI i ∧ ¬ x < 0 ∧ ¬ 3 < x ∧ x ≤ 3 := by
  by_cases h0 : x < 0
  · exact Or.inl h0
  · by_cases h3 : x ≤ 3
    · obtain ⟨i, hi, e⟩ := nI_of2 (n := 3) (by decide) h0 h3
      exact Or.inr (Or.inr ⟨i, by omega, e, h0, Int32.not_lt.mpr h3, h3⟩)
    · exact Or.inr (Or.inl ⟨h0, Int32.not_le.mp h3, h3⟩)
end
section
theorem pp_29 {post : SX → Prop} {sg : Int32} {cx t p : Nat → Int32} (H : ∀ p' : Nat → Int32, (∀ m, m < 4 → p' m = nI m) → post (1, cx, t, p')) : ∃ n, wX_init_29 post sg n 0 cx t p := by
  refine loop_0 (fun n i s => wX_init_29 post sg n (nI i) cx t s) (fun i s => ∀ m, m < i → s m = nI m) 4 p ?_ ?_ ?_
  · intro m h
    exact absurd h (by omega)
  · intro n s I
    exact pk_le 4 4 (fun _ => H s I) (fun h => absurd h (by omega))
  · intro n i s hi I K
    refine pk_le 4 i (fun h => absurd h (by omega)) (fun _ => ⟨vp_in_nI hi (by omega), nm_r (e' := upd s i (nI i)) (by rw [pp_c4 hi]) (nm_r (nI_1 i) (K _ ?_))⟩)
    intro m hm
    by_cases e : m = i
    · subst e
      exact pk_us
    · rw [pk_un e]
      exact I m (by omega)
theorem pp_81 {post : Int32 → SX → Prop} {sg : Int32} {cx t p : Nat → Int32} (H : ∀ p' : Nat → Int32, (∀ m, m < 4 → p' m = nI m) → post sg (sg, cx, t, p')) : ∃ n, wX_settle_81 post sg n 0 cx t p := by
  refine loop_0 (fun n i s => wX_settle_81 post sg n (nI i) cx t s) (fun i s => ∀ m, m < i → s m = nI m) 4 p ?_ ?_ ?_
  · intro m h
    exact absurd h (by omega)
  · intro n s I
    exact pk_le 4 4 (fun _ => H s I) (fun h => absurd h (by omega))
  · intro n i s hi I K
    refine pk_le 4 i (fun h => absurd h (by omega)) (fun _ => ⟨vp_in_nI hi (by omega), nm_r (e' := upd s i (nI i)) (by rw [pp_c4 hi]) (nm_r (nI_1 i) (K _ ?_))⟩)
    intro m hm
    by_cases e : m = i
    · subst e
      exact pk_us
    · rw [pk_un e]
      exact I m (by omega)
theorem pp_55 {post : Int32 → SX → Prop} {sg : Int32} {cx t p : Nat → Int32} (H : ∀ cx' p' : Nat → Int32, (∀ m, m < 16 → cx' m = t m) → (∀ m, m < 4 → p' m = nI m) → post sg (sg, cx', t, p')) : ∃ n, wX_settle_55 post sg n 0 cx t p := by
  refine loop_0 (fun n i s => wX_settle_55 post sg n (nI i) s t p) (fun i s => ∀ m, m < i → s m = t m) 16 cx ?_ ?_ ?_
  · intro m h
    exact absurd h (by omega)
  · intro n s I
    exact pk_le 16 16 (fun _ => pp_81 (fun p' hp => H s p' I hp)) (fun h => absurd h (by omega))
  · intro n i s hi I K
    have ci : (nI i).toNatClampNeg = i := nI_clamp (by omega)
    have vi : vp_in (nI i) 16 := vp_in_nI hi (by omega)
    refine pk_le 16 i (fun h => absurd h (by omega)) (fun _ => ⟨vi, vi, nm_r (e' := upd s i (t i)) (by rw [ci]) (nm_r (nI_1 i) (K _ ?_))⟩)
    intro m hm
    by_cases e : m = i
    · subst e
      exact pk_us
    · rw [pk_un e]
      exact I m (by omega)
theorem pp_16 {post : Int32 → SX → Prop} {J : Int32 → (Nat → Int32) → (Nat → Int32) → (Nat → Int32) → Prop} {sg : Int32} {cx t p : Nat → Int32} {F : Nat → Nat → Int32} {k r : Nat} (hk : k < 4) (hr : r < 4) (hF : ∀ b, b < 4 → F k b = cx (r * 4 + b)) (h0 : ∀ a b, a < k → b < 4 → t (a * 4 + b) = F a b) (H : ∀ t' : Nat → Int32, (∀ a b, a < k + 1 → b < 4 → t' (a * 4 + b) = F a b) → J (nI (k + 1)) cx t' p) : ∃ n, wX_settle_16 post J (nI k) (nI r) sg n 0 cx t p := by
  refine loop_0 (fun n i s => wX_settle_16 post J (nI k) (nI r) sg n (nI i) cx s p) (fun i s => ∀ a b, b < 4 → (a < k ∨ (a = k ∧ b < i)) → s (a * 4 + b) = F a b) 4 t ?_ ?_ ?_
  · intro a b hb h
    exact h0 a b (by omega) hb
  · intro n s I
    exact pk_le 4 4 (fun _ => nm_r (nI_1 k) (H s (fun a b ha hb => I a b hb (by omega)))) (fun h => absurd h (by omega))
  · intro n i s hi I K
    refine pk_le 4 i (fun h => absurd h (by omega)) (fun _ => ⟨pp_in hr hi, pp_in hk hi, nm_r (e' := upd s (k * 4 + i) (cx (r * 4 + i))) (by rw [pp_cl hk hi, pp_cl hr hi]) (nm_r (nI_1 i) (K _ ?_))⟩)
    intro a b hb h
    by_cases e : a = k ∧ b = i
    · obtain ⟨rfl, rfl⟩ := e
      rw [pk_us]
      exact (hF b hb).symm
    · have ne : a * 4 + b ≠ k * 4 + i := by omega
      rw [pk_un ne]
      exact I a b hb (by omega)
theorem pp_2 {post : Int32 → SX → Prop} {sg : Int32} {cx t p : Nat → Int32} {q : Nat → Nat} (hq : ∀ a, a < 4 → p a = nI (q a) ∧ q a < 4) (H : ∀ cx' t' p' : Nat → Int32, (∀ a b, a < 4 → b < 4 → t' (a * 4 + b) = cx (q a * 4 + b)) → (∀ m, m < 16 → cx' m = t' m) → (∀ m, m < 4 → p' m = nI m) → post sg (sg, cx', t', p')) : ∃ n, wX_settle_2 post sg n 0 cx t p := by
  refine loop_0 (fun n i s => wX_settle_2 post sg n (nI i) cx s p) (fun i s => ∀ a b, a < i → b < 4 → s (a * 4 + b) = cx (q a * 4 + b)) 4 t ?_ ?_ ?_
  · intro a b h
    exact absurd h (by omega)
  · intro n s I
    exact pk_le 4 4 (fun _ => pp_55 (fun cx' p' hc hp => H cx' s p' I hc hp)) (fun h => absurd h (by omega))
  · intro n i s hi I K
    have e : p (nI i).toNatClampNeg = nI (q i) := by
      rw [pp_c4 hi]
      exact (hq i hi).1
    exact pk_le 4 i (fun h => absurd h (by omega)) (fun _ => ⟨vp_in_nI hi (by omega), nm_r e (pp_16 (F := fun a b => cx (q a * 4 + b)) hi (hq i hi).2 (fun b hb => rfl) I K)⟩)
theorem pp_27 {post : Int32 → SY → Prop} {sg : Int32} {cy : Nat → Int32} {i j : Nat} (hi : i < 4) (hj : j < 4) (ne : i ≠ j) (H : ∀ cy' : Nat → Int32, (∀ a b, a < 4 → b < 4 → cy' (a * 4 + b) = cy (pp_s i j a * 4 + b)) → post 1 (-sg, cy')) : ∃ n, wY_swap_27 post (nI i) (nI j) sg n 0 cy := by
  refine loop_0 (fun n c s => wY_swap_27 post (nI i) (nI j) sg n (nI c) s) (fun c s => ∀ a b, a < 4 → b < 4 → (b < c → s (a * 4 + b) = cy (pp_s i j a * 4 + b)) ∧ (c ≤ b → s (a * 4 + b) = cy (a * 4 + b))) 4 cy ?_ ?_ ?_
  · intro a b ha hb
    exact ⟨fun h => absurd h (by omega), fun _ => rfl⟩
  · intro n s I
    exact pk_le 4 4 (fun _ => nm_e (H s (fun a b ha hb => (I a b ha hb).1 hb))) (fun h => absurd h (by omega))
  · intro n c s hc I K
    refine pk_le 4 c (fun h => absurd h (by omega)) (fun _ => ⟨pp_in hi hc, nm_r (e' := s (i * 4 + c)) (by rw [pp_cl hi hc]) ⟨pp_in hj hc, pp_in hi hc, nm_r (e' := upd s (i * 4 + c) (s (j * 4 + c))) (by rw [pp_cl hi hc, pp_cl hj hc]) ⟨pp_in hj hc, nm_r (e' := upd (upd s (i * 4 + c) (s (j * 4 + c))) (j * 4 + c) (s (i * 4 + c))) (by rw [pp_cl hj hc]) (nm_r (nI_1 c) (K _ ?_))⟩⟩⟩)
    intro a b ha hb
    by_cases e : b = c
    · subst e
      refine ⟨fun _ => ?_, fun h => absurd h (by omega)⟩
      rw [pp_upd]
      by_cases a1 : a = j
      · subst a1
        rw [pp_s_r, pp_s_r]
        exact (I i b hi hb).2 (by omega)
      · by_cases a2 : a = i
        · subst a2
          rw [pp_s_l (by omega), pp_s_l ne]
          exact (I j b hj hb).2 (by omega)
        · rw [pp_s_o (by omega) (by omega), pp_s_o a2 a1]
          exact (I a b ha hb).2 (by omega)
    · have n1 : a * 4 + b ≠ j * 4 + c := by omega
      have n2 : a * 4 + b ≠ i * 4 + c := by omega
      rw [pk_un n1, pk_un n2]
      exact ⟨fun h => (I a b ha hb).1 (by omega), fun h => (I a b ha hb).2 (by omega)⟩
end
section
/-- the same sign; X's table seen through its pivot vector, a permutation of 0 .. 3, is Y's -/
def i_Rel (_ : Nat) (u : SX) (v : SY) : Prop := ∃ (s : Int32) (cx t p cy : Nat → Int32) (q : Nat → Nat), u = (s, cx, t, p) ∧ v = (s, cy) ∧ pp_Q q cx p cy
theorem i_up {k : Nat} {u : SX} {v : SY} (h : i_Rel k u v) : i_Rel (k + 4) u v := h
theorem i_vc0 : wpX_init (fun u => wpY_init (fun v => i_Rel 0 u v)) :=
  pp_29 (fun p' hp => ⟨1, _, _, p', _, fun a => a, rfl, rfl, fun a ha => ⟨hp a ha, ha⟩, fun _ _ _ _ e => e, fun _ _ _ _ => rfl⟩)
theorem i_vc_put {k : Nat} {u : SX} {v : SY} (I : i_Rel k u v) (hk : k + 4 ≤ 2048) (v1 : Int32) (v2 : Int32) (v3 : Int32) : wpX_put (fun r u' => wpY_put (fun r' v' => r' = r ∧ i_Rel (k + 4) u' v') v v1 v2 v3) u v1 v2 v3 := by
  have J := i_up I
  obtain ⟨s, cx, t, p, cy, q, rfl, rfl, Q⟩ := I
  rcases pp_dom v1 with h | ⟨h0, h3, _⟩ | ⟨i, hi, rfl, h0, h3, _⟩
  · exact br_t h (br_t h ⟨rfl, J⟩)
  · exact br_f h0 (br_t h3 (br_f h0 (br_t h3 ⟨rfl, J⟩)))
  · rcases pp_dom v2 with g | ⟨g0, _, g3⟩ | ⟨j, hj, rfl, g0, _, g3⟩
    · exact br_f h0 (br_f h3 (br_t g (br_f h0 (br_f h3 (br_t g ⟨rfl, J⟩)))))
    · exact br_f h0 (br_f h3 (br_f g0 (br_f g3 (br_f h0 (br_f h3 (br_f g0 (br_f g3 ⟨rfl, J⟩)))))))
    · have e : p (nI i).toNatClampNeg = nI (q i) := by
        rw [pp_c4 hi]
        exact (Q.1 i hi).1
      have hq := (Q.1 i hi).2
      refine br_f h0 (br_f h3 (br_f g0 (br_t g3 ⟨vp_in_nI hi (by omega), by rw [e]; exact pp_in hq hj, nm_r (e' := upd cx (q i * 4 + j) v3) (by rw [e, pp_cl hq hj]) ?_⟩)))
      exact br_f h0 (br_f h3 (br_f g0 (br_t g3 ⟨pp_in hi hj, nm_r (e' := upd cy (i * 4 + j) v3) (by rw [pp_cl hi hj]) ⟨rfl, s, _, t, p, _, q, rfl, rfl, pp_put Q hi hj v3⟩⟩)))
theorem i_vc_swap {k : Nat} {u : SX} {v : SY} (I : i_Rel k u v) (hk : k + 4 ≤ 2048) (v1 : Int32) (v2 : Int32) : wpX_swap (fun r u' => wpY_swap (fun r' v' => r' = r ∧ i_Rel (k + 4) u' v') v v1 v2) u v1 v2 := by
  have J := i_up I
  obtain ⟨s, cx, t, p, cy, q, rfl, rfl, Q⟩ := I
  rcases pp_dom v1 with h | ⟨h0, h3, _⟩ | ⟨i, hi, rfl, h0, h3, _⟩
  · exact br_t h (br_t h ⟨rfl, J⟩)
  · exact br_f h0 (br_t h3 (br_f h0 (br_t h3 ⟨rfl, J⟩)))
  · rcases pp_dom v2 with g | ⟨g0, _, g3⟩ | ⟨j, hj, rfl, g0, _, g3⟩
    · exact br_f h0 (br_f h3 (br_t g (br_f h0 (br_f h3 (br_t g ⟨rfl, J⟩)))))
    · exact br_f h0 (br_f h3 (br_f g0 (br_f g3 (br_f h0 (br_f h3 (br_f g0 (br_f g3 ⟨rfl, J⟩)))))))
    · by_cases e : nI i = nI j
      · exact br_f h0 (br_f h3 (br_f g0 (br_t g3 (br_t e (br_f h0 (br_f h3 (br_f g0 (br_t g3 (br_t e ⟨rfl, J⟩)))))))))
      · have ne : i ≠ j := fun z => e (congrArg nI z)
        have vi : vp_in (nI i) 4 := vp_in_nI hi (by omega)
        have vj : vp_in (nI j) 4 := vp_in_nI hj (by omega)
        refine br_f h0 (br_f h3 (br_f g0 (br_t g3 (br_f e ⟨vi, nm_r (e' := p i) (by rw [pp_c4 hi]) ⟨vj, vi, nm_r (e' := upd p i (p j)) (by rw [pp_c4 hi, pp_c4 hj]) ⟨vj, nm_r (e' := upd (upd p i (p j)) j (p i)) (by rw [pp_c4 hj]) (nm_e ?_)⟩⟩⟩))))
        exact br_f h0 (br_f h3 (br_f g0 (br_t g3 (br_f e (pp_27 hi hj ne (fun cy' hc => ⟨rfl, -s, cx, t, _, cy', _, rfl, rfl, pp_swap Q hi hj hc⟩))))))
theorem i_vc_get {k : Nat} {u : SX} {v : SY} (I : i_Rel k u v) (hk : k + 4 ≤ 2048) (v1 : Int32) (v2 : Int32) : wpX_get (fun r => wpY_get (fun r' => r' = r ∧ i_Rel (k + 4) u v) v v1 v2) u v1 v2 := by
  have J := i_up I
  obtain ⟨s, cx, t, p, cy, q, rfl, rfl, Q⟩ := I
  rcases pp_dom v1 with h | ⟨h0, h3, _⟩ | ⟨i, hi, rfl, h0, h3, _⟩
  · exact br_t h (br_t h ⟨rfl, J⟩)
  · exact br_f h0 (br_t h3 (br_f h0 (br_t h3 ⟨rfl, J⟩)))
  · rcases pp_dom v2 with g | ⟨g0, _, g3⟩ | ⟨j, hj, rfl, g0, _, g3⟩
    · exact br_f h0 (br_f h3 (br_t g (br_f h0 (br_f h3 (br_t g ⟨rfl, J⟩)))))
    · exact br_f h0 (br_f h3 (br_f g0 (br_f g3 (br_f h0 (br_f h3 (br_f g0 (br_f g3 ⟨rfl, J⟩)))))))
    · have e : p (nI i).toNatClampNeg = nI (q i) := by
        rw [pp_c4 hi]
        exact (Q.1 i hi).1
      have hq := (Q.1 i hi).2
      refine br_f h0 (br_f h3 (br_f g0 (br_t g3 ⟨vp_in_nI hi (by omega), by rw [e]; exact pp_in hq hj, ?_⟩)))
      refine br_f h0 (br_f h3 (br_f g0 (br_t g3 ⟨pp_in hi hj, ?_, J⟩)))
      rw [e, pp_cl hq hj, pp_cl hi hj]
      exact (Q.2.2 i j hi hj).symm
theorem i_vc_settle {k : Nat} {u : SX} {v : SY} (I : i_Rel k u v) (hk : k + 4 ≤ 2048) : wpX_settle (fun r u' => wpY_settle (fun r' => r' = r ∧ i_Rel (k + 4) u' v) v) u := by
  obtain ⟨s, cx, t, p, cy, q, rfl, rfl, Q⟩ := I
  exact pp_2 Q.1 (fun cx' t' p' ht hc hp => ⟨rfl, s, cx', t', p', cy, _, rfl, rfl, pp_settle Q ht hc hp⟩)
end

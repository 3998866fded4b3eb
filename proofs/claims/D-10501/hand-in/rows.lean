section
/-- the picture: depth 0, one bucket (number 0, depth 0); g: it holds one key, and then this key with this value -/
def sd_S (g : Prop) (key value : Int32) (a1 a2 a3 a4 a5 a6 : Nat → Int32) : Prop :=
  a1 0 = 0 ∧ a2 0 = 1 ∧ (∀ j, 0 < j → a2 j = 0) ∧ a3 0 = 0 ∧ ((¬ g ∧ a4 0 = 0) ∨ (g ∧ a4 0 = 1 ∧ a5 0 = key ∧ a6 0 = value))
theorem sd_and0 (p : Int32) : p &&& (((1 : Int32) <<< ((0 : Int32) &&& 31)) - 1) = 0 := by
  rw [show (((1 : Int32) <<< ((0 : Int32) &&& 31)) - 1) = 0 by decide]
  exact Int32.and_zero
theorem sd_c0 : (0 : Int32).toNatClampNeg = 0 := by decide
theorem sd_i0 : ((0 : Int32) * 5 + 0).toNatClampNeg = 0 := by decide
/-- bucketOf: number 0 -/
theorem sd_bk {post : Int32 → Prop} {bc kc : Int32} {a1 a2 a3 a4 a5 a6 : Nat → Int32} (p : Int32) (h1 : a1 0 = 0) (hp : post 0) :
    wpX_bucketOf post (0, bc, kc, a1, a2, a3, a4, a5, a6) p := by
  show vp_in (p &&& (((1 : Int32) <<< ((0 : Int32) &&& 31)) - 1)) 64 ∧ post (a1 (p &&& (((1 : Int32) <<< ((0 : Int32) &&& 31)) - 1)).toNatClampNeg)
  rw [sd_and0, sd_c0, h1]
  exact ⟨pk_in 0 64 (by omega), hp⟩
/-- find in the empty bucket -/
theorem sd_find0 {post : Int32 → Prop} {f bc kc : Int32} {a1 a2 a3 a4 a5 a6 : Nat → Int32} (k : Int32) (h4 : a4 0 = 0) (hp : post (-1)) :
    wpX_find post (f, bc, kc, a1, a2, a3, a4, a5, a6) 0 k :=
  ⟨1, pk_in 0 65 (by omega), br_t (by rw [sd_c0, h4]; decide) hp⟩
/-- find in the bucket of one key -/
theorem sd_find1 {post : Int32 → Prop} {f bc kc : Int32} {a1 a2 a3 a4 a5 a6 : Nat → Int32} (k : Int32) (h4 : a4 0 = 1) (hy : a5 0 = k → post 0) (hn : ¬ a5 0 = k → post (-1)) :
    wpX_find post (f, bc, kc, a1, a2, a3, a4, a5, a6) 0 k :=
  ⟨2, pk_in 0 65 (by omega), br_f (by rw [sd_c0, h4]; decide) ⟨pk_in 0 325 (by omega), br_c (fun e => hy (by rw [sd_i0] at e; exact e))
    (fun e => nm_r (e' := 1) (by decide) ⟨pk_in 0 65 (by omega), br_t (by rw [sd_c0, h4]; decide) (hn (by rw [sd_i0] at e; exact e))⟩)⟩⟩
theorem sd_fd {post : Int32 → Prop} {g : Prop} {key value : Int32} {f bc kc : Int32} {a1 a2 a3 a4 a5 a6 : Nat → Int32} (hS : sd_S g key value a1 a2 a3 a4 a5 a6) (k : Int32)
    (hy : g → k = key → post 0) (hn : ¬ (g ∧ k = key) → post (-1)) : wpX_find post (f, bc, kc, a1, a2, a3, a4, a5, a6) 0 k := by
  obtain ⟨_, _, _, _, h⟩ := hS
  rcases h with ⟨hg, h4⟩ | ⟨hg, h4, h5, _⟩
  · exact sd_find0 k h4 (hn (fun z => hg z.1))
  · exact sd_find1 k h4 (fun e => hy hg (by rw [← e, h5])) (fun e => hn (fun z => e (by rw [h5, z.2])))
theorem sd_ik {post : Int32 → Prop} (k : Int32) (hy : ¬ (k < 0 ∨ 256 ≤ k) → post 1) (hn : (k < 0 ∨ 256 ≤ k) → post 0) : wpX_isKey post () k :=
  br_c (fun h => hn (.inl h)) (fun h => br_c (fun h2 => hn (.inr h2)) (fun h2 => hy (fun z => z.elim h h2)))
theorem sd_has {post : Int32 → Prop} {g : Prop} {key value : Int32} {bc kc : Int32} {a1 a2 a3 a4 a5 a6 : Nat → Int32} (hS : sd_S g key value a1 a2 a3 a4 a5 a6)
    (hr : g → ¬ (key < 0 ∨ 256 ≤ key)) (k : Int32) (hy : g → k = key → post 1) (hn : ¬ (g ∧ k = key) → post 0) : wpX_has post (0, bc, kc, a1, a2, a3, a4, a5, a6) k := by
  unfold wpX_has
  exact sd_ik k (fun _ => br_f (by decide) (sd_bk k hS.1 (sd_fd hS k (fun e e2 => br_f (by decide) (hy e e2)) (fun e => br_t (by decide) (hn e)))))
    (fun h => br_t rfl (hn (fun z => hr z.1 (by rw [← z.2]; exact h))))
theorem sd_val {g : Prop} {key value : Int32} {a1 a2 a3 a4 a5 a6 : Nat → Int32} (hS : sd_S g key value a1 a2 a3 a4 a5 a6) (hg : g) : a4 0 = 1 ∧ a5 0 = key ∧ a6 0 = value := by
  rcases hS.2.2.2.2 with h | h
  · exact absurd hg h.1
  · exact h.2
theorem sd_get {post : Int32 → Prop} {g : Prop} {key value : Int32} {bc kc : Int32} {a1 a2 a3 a4 a5 a6 : Nat → Int32} (hS : sd_S g key value a1 a2 a3 a4 a5 a6)
    (hr : g → ¬ (key < 0 ∨ 256 ≤ key)) (k : Int32) (H : ∀ r, (g ∧ k = key → r = value) → (¬ (g ∧ k = key) → r = 0) → post r) : wpX_get post (0, bc, kc, a1, a2, a3, a4, a5, a6) k := by
  unfold wpX_get
  refine sd_has hS hr k (fun e e2 => br_f (by decide) (sd_bk k hS.1 (sd_fd hS k (fun _ _ => br_t (by decide) ⟨pk_in 0 325 (by omega), ?_⟩) (fun z => absurd ⟨e, e2⟩ z))))
    (fun e => br_t rfl (H 0 (fun z => absurd z e) (fun _ => rfl)))
  rw [sd_i0, (sd_val hS e).2.2]
  exact H value (fun _ => rfl) (fun z => absurd ⟨e, e2⟩ z)
/-- next's loop, from s on; the key is t -/
theorem sd_nl {post : Int32 → Prop} {g : Prop} {value : Int32} {bc kc : Int32} {a1 a2 a3 a4 a5 a6 : Nat → Int32} {t s : Nat} (ht : t < 256) (hS : sd_S g (nI t) value a1 a2 a3 a4 a5 a6)
    (hr : g → ¬ (nI t < 0 ∨ 256 ≤ nI t)) (hs : s ≤ 256) (H1 : g → s ≤ t → post (nI t)) (H2 : ¬ (g ∧ s ≤ t) → post (-1)) :
    ∃ n, wX_next_10 post 0 bc kc a1 a2 a3 a4 a5 a6 n (nI s) :=
  pk_loop (σ := Unit) (fun n i _ => wX_next_10 post 0 bc kc a1 a2 a3 a4 a5 a6 n (nI i)) (fun i _ => s ≤ i ∧ (g → s ≤ t → i ≤ t)) 256 s () hs ⟨Nat.le_refl s, fun _ h => h⟩
    (fun n _ h => pk_le 256 256 (fun _ => H2 (fun z => absurd (h.2 z.1 z.2) (by omega))) (fun z => absurd z (by omega)))
    (fun n i _ hi h hw => pk_le 256 i (fun z => absurd z (by omega)) (fun _ => sd_has hS hr (nI i)
      (fun e e2 => br_f (by decide) (by
        have ei : i = t := (nI_eq (by omega) (by omega)).mp e2
        rw [e2]
        exact H1 e (by rw [← ei]; exact h.1)))
      (fun e => br_t rfl (nm_r (nI_1 i) (hw () ⟨Nat.le_succ_of_le h.1, fun e1 e2 => Nat.lt_of_le_of_ne (h.2 e1 e2) (fun q => e ⟨e1, by rw [q]⟩)⟩)))))
theorem sd_next {post : Int32 → Prop} {g : Prop} {value : Int32} {bc kc : Int32} {a1 a2 a3 a4 a5 a6 : Nat → Int32} {t : Nat} (ht : t < 256) (hS : sd_S g (nI t) value a1 a2 a3 a4 a5 a6)
    (hr : g → ¬ (nI t < 0 ∨ 256 ≤ nI t)) (p : Int32) (H : ∀ r, (g ∧ ¬ nI t < p → r = nI t) → (¬ (g ∧ ¬ nI t < p) → r = -1) → post r) : wpX_next post (0, bc, kc, a1, a2, a3, a4, a5, a6) p := by
  unfold wpX_next
  refine br_c (fun h => ?_) (fun h => ?_)
  · obtain ⟨j, hj, rfl⟩ := nI_of (Int32.not_lt.mpr h)
    have hJ : ¬ nI t < nI j ↔ j ≤ t := by rw [nI_ltI (by omega) hj]; omega
    by_cases hc : j ≤ 256
    · exact sd_nl ht hS hr hc (fun e1 e2 => H _ (fun _ => rfl) (fun z => absurd ⟨e1, hJ.mpr e2⟩ z)) (fun z => H _ (fun q => absurd ⟨q.1, hJ.mp q.2⟩ z) (fun _ => rfl))
    · exact ⟨1, br_t (nI_le (a := 256) (by omega) hj) (H _ (fun q => absurd (hJ.mp q.2) (by omega)) (fun _ => rfl))⟩
  · have hJ : ¬ nI t < p := by
      have h1 : ¬ (0 : Int32).toInt ≤ p.toInt := fun z => h (Int32.le_iff_toInt_le.mpr z)
      have h2 : (0 : Int32).toInt = 0 := by decide
      have h3 : (nI t).toInt = (t : Int) := nI_toInt (by omega)
      rw [Int32.lt_iff_toInt_lt, h3]
      omega
    exact sd_nl (s := 0) ht hS hr (by omega) (fun e1 _ => H _ (fun _ => rfl) (fun z => absurd ⟨e1, hJ⟩ z)) (fun z => H _ (fun q => absurd ⟨q.1, Nat.zero_le t⟩ z) (fun _ => rfl))
/-- inBucket k 0: the only key, where there is one and k may be a key -/
theorem sd_inb {post : Int32 → Prop} {g : Prop} {key value : Int32} {bc kc : Int32} {a1 a2 a3 a4 a5 a6 : Nat → Int32} (hS : sd_S g key value a1 a2 a3 a4 a5 a6) (k : Int32)
    (H : ∀ r, (g ∧ ¬ (k < 0 ∨ 256 ≤ k) → r = key) → (¬ (g ∧ ¬ (k < 0 ∨ 256 ≤ k)) → r = -1) → post r) : wpX_inBucket post (0, bc, kc, a1, a2, a3, a4, a5, a6) k 0 := by
  unfold wpX_inBucket
  refine sd_ik k (fun h => br_f (by decide) (sd_bk k hS.1 ?_)) (fun h => br_t rfl (H _ (fun z => absurd h z.2) (fun _ => rfl)))
  rcases hS.2.2.2.2 with ⟨hg, h4⟩ | ⟨hg, h4, h5, h6⟩
  · exact ⟨1, pk_in 0 65 (by omega), br_t (by rw [sd_c0, h4]; decide) (H _ (fun z => absurd z.1 hg) (fun _ => rfl))⟩
  · exact ⟨1, pk_in 0 65 (by omega), br_f (by rw [sd_c0, h4]; decide) ⟨2, pk_in 0 65 (by omega), br_f (by rw [sd_c0, h4]; decide) ⟨pk_in 0 325 (by omega), pk_in 0 325 (by omega),
      br_t (Int32.le_refl _) (nm_r (e' := 0) (by decide) (nm_r (e' := 1) (by decide) ⟨pk_in 0 65 (by omega), br_t (by rw [sd_c0, h4]; decide)
        (br_t rfl ⟨pk_in 0 325 (by omega), by rw [sd_i0, h5]; exact H key (fun _ => rfl) (fun z => absurd ⟨hg, h⟩ z)⟩)⟩))⟩⟩⟩
theorem sd_od {post : Int32 → Prop} {g : Prop} {key value : Int32} {bc kc : Int32} {a1 a2 a3 a4 a5 a6 : Nat → Int32} (hS : sd_S g key value a1 a2 a3 a4 a5 a6) (d : Int32)
    (H : ∀ r, (d = 0 → r = 1) → (¬ d = 0 → r = 0) → post r) : wpX_ofDepth post (0, bc, kc, a1, a2, a3, a4, a5, a6) d := by
  obtain ⟨_, h2, h2', h3, _⟩ := hS
  unfold wpX_ofDepth
  refine pk_loop (fun n i s => wX_ofDepth_4 post d 0 bc kc a1 a2 a3 a4 a5 a6 n s (nI i)) (fun i s => (i = 0 → s = 0) ∧ (0 < i → (d = 0 → s = 1) ∧ (¬ d = 0 → s = 0))) 64 0 0 (by omega)
    ⟨fun _ => rfl, fun h => absurd h (by omega)⟩ (fun n s h => pk_le 64 64 (fun _ => H s (h.2 (by omega)).1 (h.2 (by omega)).2) (fun z => absurd z (by omega))) (fun n i s hi h hw => ?_)
  refine pk_le 64 i (fun z => absurd z (by omega)) (fun _ => ⟨pk_in i 65 (by omega), ?_⟩)
  rw [nI_clamp (show i < 2 ^ 31 by omega)]
  by_cases e : i = 0
  · subst e
    have hs : s = 0 := h.1 rfl
    subst hs
    rw [h2, h3]
    exact br_f (by decide) ⟨pk_in 0 65 (by omega), br_c (fun e => nm_r (e' := 1) (by decide) (nm_r (nI_1 0) (hw 1 ⟨fun z => absurd z (by omega), fun _ => ⟨fun _ => rfl, fun z => absurd e.symm z⟩⟩)))
      (fun e => nm_r (e' := 0) (by decide) (nm_r (nI_1 0) (hw 0 ⟨fun z => absurd z (by omega), fun _ => ⟨fun z => absurd z.symm e, fun _ => rfl⟩⟩)))⟩
  · exact br_t (h2' i (by omega)) (nm_r (Int32.add_zero s) (nm_r (nI_1 i) (hw s ⟨fun z => absurd z (by omega), fun _ => h.2 (by omega)⟩)))
theorem sd_ja {post : Int32 → St2 → Prop} {bc kc : Int32} {a1 a2 a3 a4 a5 a6 : Nat → Int32} (k : Int32) (h1 : a1 0 = 0) (h3 : a3 0 = 0) (hp : post 0 (0, bc, kc, a1, a2, a3, a4, a5, a6)) :
    wpX_joinAt post (0, bc, kc, a1, a2, a3, a4, a5, a6) k := by
  unfold wpX_joinAt
  exact sd_bk k h1 ⟨pk_in 0 65 (by omega), nm_e (br_t (by rw [sd_c0, h3]) hp)⟩
theorem sd_del {post : St2 → Prop} {bc kc : Int32} {a1 a2 a3 a4 a5 a6 : Nat → Int32} (k : Int32) (h1 : a1 0 = 0) (h3 : a3 0 = 0) (h4 : a4 0 = 1)
    (hp : ∀ kc' a4' a5' a6', post (0, bc, kc', a1, a2, a3, a4', a5', a6')) : wpX_delete post (0, bc, kc, a1, a2, a3, a4, a5, a6) 0 0 k := by
  have hz : upd a4 (0 : Int32).toNatClampNeg ((a4 (0 : Int32).toNatClampNeg - 1).toInt8.toInt32) (0 : Int32).toNatClampNeg = 0 := by
    rw [pk_us, sd_c0, h4]
    decide
  have hi : vp_in ((0 : Int32) * 5 + upd a4 (0 : Int32).toNatClampNeg ((a4 (0 : Int32).toNatClampNeg - 1).toInt8.toInt32) (0 : Int32).toNatClampNeg) 325 := by
    rw [hz]
    exact pk_in 0 325 (by omega)
  unfold wpX_delete
  exact ⟨pk_in 0 65 (by omega), pk_in 0 65 (by omega), nm_e ⟨pk_in 0 65 (by omega), hi, pk_in 0 325 (by omega), nm_e ⟨pk_in 0 65 (by omega), hi, pk_in 0 325 (by omega), nm_e (nm_e
    ⟨2, br_f (by decide) (br_f (by decide) (sd_ja k h1 h3 (nm_r (e' := 1) (by decide) (br_f (by decide) (br_t rfl ⟨1, br_t (by decide) (hp _ _ _ _)⟩)))))⟩)⟩⟩⟩
theorem sd_rm {post : Int32 → St2 → Prop} {g : Prop} {key value : Int32} {kc : Int32} {a1 a2 a3 a4 a5 a6 : Nat → Int32} (hS : sd_S g key value a1 a2 a3 a4 a5 a6)
    (hr : g → ¬ (key < 0 ∨ 256 ≤ key)) (k : Int32) (H : ∀ r kc' a4' a5' a6', (g ∧ k = key → r = 1) → (¬ (g ∧ k = key) → r = -1) → post r (0, 1, kc', a1, a2, a3, a4', a5', a6')) :
    wpX_remove post (0, 1, kc, a1, a2, a3, a4, a5, a6) k := by
  unfold wpX_remove
  exact sd_has hS hr k (fun e e2 => br_f (by decide) (sd_bk k hS.1 (sd_fd hS k (fun _ _ => sd_del k hS.1 hS.2.2.2.1 (sd_val hS e).1 (fun _ _ _ _ => H 1 _ _ _ _ (fun _ => rfl) (fun z => absurd ⟨e, e2⟩ z)))
    (fun z => absurd ⟨e, e2⟩ z)))) (fun e => br_t rfl (H (-1) _ _ _ _ (fun z => absurd z e) (fun _ => rfl)))
theorem sd_put {post : Int32 → St2 → Prop} {key value : Int32} {a1 a2 a3 a4 a5 a6 : Nat → Int32} (hS : sd_S False key value a1 a2 a3 a4 a5 a6) (p v : Int32)
    (H1 : ¬ (p < 0 ∨ 256 ≤ p) → ∀ a4' a5' a6', sd_S True p v a1 a2 a3 a4' a5' a6' → post 1 (0, 1, 1, a1, a2, a3, a4', a5', a6'))
    (H2 : (p < 0 ∨ 256 ≤ p) → post (-1) (0, 1, 0, a1, a2, a3, a4, a5, a6)) : wpX_put post (0, 1, 0, a1, a2, a3, a4, a5, a6) p v := by
  have h4 : a4 0 = 0 := by
    rcases hS.2.2.2.2 with h | h
    · exact h.2
    · exact h.1.elim
  unfold wpX_put
  refine sd_ik p (fun h => br_f (by decide) (sd_bk p hS.1 (sd_fd hS p (fun z _ => z.elim) (fun _ => br_t (by decide) (br_t (by decide) ?_))))) (fun h => br_t rfl (H2 h))
  have hn : p.toInt16.toInt32 = p := by
    have q1 : ¬ p.toInt < (0 : Int32).toInt := fun z => h (.inl (Int32.lt_iff_toInt_lt.mpr z))
    have q2 : ¬ (256 : Int32).toInt ≤ p.toInt := fun z => h (.inr (Int32.le_iff_toInt_le.mpr z))
    have q3 : (0 : Int32).toInt = 0 := by decide
    have q4 : (256 : Int32).toInt = 256 := by decide
    exact lg_i2s_small (by omega) (by omega)
  have hi : (0 : Int32) * 5 + a4 (0 : Int32).toNatClampNeg = 0 := by
    rw [sd_c0, h4]
    decide
  have hv : vp_in ((0 : Int32) * 5 + a4 (0 : Int32).toNatClampNeg) 325 := by
    rw [hi]
    exact pk_in 0 325 (by omega)
  have e5 : upd a5 ((0 : Int32) * 5 + a4 (0 : Int32).toNatClampNeg).toNatClampNeg p.toInt16.toInt32 = upd a5 0 p := by rw [hi, sd_c0, hn]
  have e6 : upd a6 ((0 : Int32) * 5 + a4 (0 : Int32).toNatClampNeg).toNatClampNeg v = upd a6 0 v := by rw [hi, sd_c0]
  have e4 : upd a4 (0 : Int32).toNatClampNeg ((a4 (0 : Int32).toNatClampNeg + 1).toInt8.toInt32) = upd a4 0 1 := by
    rw [sd_c0, h4, show ((0 : Int32) + 1).toInt8.toInt32 = 1 by decide]
  have hF : sd_S True p v a1 a2 a3 (upd a4 0 1) (upd a5 0 p) (upd a6 0 v) := ⟨hS.1, hS.2.1, hS.2.2.1, hS.2.2.2.1, .inr ⟨trivial, pk_us, pk_us, pk_us⟩⟩
  unfold wpX_insert
  refine sd_bk p hS.1 ?_
  unfold wpX_append
  exact ⟨pk_in 0 65 (by omega), hv, nm_r e5 ⟨pk_in 0 65 (by omega), hv, nm_r e6 ⟨pk_in 0 65 (by omega), pk_in 0 65 (by omega), nm_r e4 (nm_r (e' := 1) (by decide)
    ⟨1, br_f (by decide) ⟨pk_in 0 65 (by omega), br_t (by rw [sd_c0, pk_us]; decide) (H1 h _ _ _ hF)⟩⟩)⟩⟩⟩
end
section
theorem sd_ca {post : Int32 → Prop} {L : Nat} {xs : Nat → Int32} {x : Int32} (hL : L ≤ 5) (k : Nat) (hx : x = nI k) (hk : k < 5) (H : ∀ r, post r) : wpL_cellAt post L xs () x := by
  subst hx
  unfold wpL_cellAt
  exact pk_le L k (fun _ => H 0) (fun z => ⟨vp_in_nI z (by omega), H _⟩)
theorem sd_183 {post : Int32 → St0 → Prop} {mc ms kc ks : Nat} {x11 x13 z0 z1 : Int32} (hp : post 1 ()) (hz : z1 = z0) (h : x13 = 0 → x11 = -1) (h' : ¬ x13 = 0 → x11 = 1) :
    wL_lawOf_183 post mc ms x11 x13 z0 z1 kc ks :=
  br_t hz (br_c (fun e => br_t (h e) hp) (fun e => br_t (h' e) hp))
theorem sd_168 {post : Int32 → St0 → Prop} {mc ms kc ks : Nat} {x4 x10 x11 x13 z0 z1 : Int32} (hp : post 1 ()) (hz : z1 = z0) (h10 : x4 = 0 → x10 = 1) (h10' : ¬ x4 = 0 → x10 = 0)
    (h : x13 = 0 → x11 = -1) (h' : ¬ x13 = 0 → x11 = 1) : wL_lawOf_168 post mc ms x4 x10 x11 x13 z0 z1 kc ks :=
  br_t hz (br_c (fun e => sd_183 hp (h10 e) h h') (fun e => sd_183 hp (h10' e) h h'))
theorem sd_142 {post : Int32 → St0 → Prop} {mc ms kc ks : Nat} {x0 x2 x4 x9 x10 x11 x12 x13 z0 z1 : Int32} (hp : post 1 ()) (hz : z1 = z0)
    (h9 : x12 = 0 ∨ x2 < 0 ∨ 255 < x2 → x9 = -1) (h9' : ¬ (x12 = 0 ∨ x2 < 0 ∨ 255 < x2) → x9 = x0) (h10 : x4 = 0 → x10 = 1) (h10' : ¬ x4 = 0 → x10 = 0)
    (h : x13 = 0 → x11 = -1) (h' : ¬ x13 = 0 → x11 = 1) : wL_lawOf_142 post mc ms x0 x2 x4 x9 x10 x11 x12 x13 z0 z1 kc ks :=
  br_t hz (br_c (fun e => sd_168 hp (h9 (.inl e)) h10 h10' h h') (fun e => br_c (fun e2 => sd_168 hp (h9 (.inr (.inl e2))) h10 h10' h h')
    (fun e2 => br_c (fun e3 => sd_168 hp (h9 (.inr (.inr e3))) h10 h10' h h') (fun e3 => sd_168 hp (h9' (fun z => z.elim e (fun z => z.elim e2 e3))) h10 h10' h h'))))
theorem sd_93 {post : Int32 → St0 → Prop} {mc ms kc ks : Nat} {x0 x1 x2 x3 x4 x6 x7 x8 x9 x10 x11 x12 z0 : Int32} (hp : post 1 ())
    (h6 : x12 = 0 → x6 = -1) (h6' : ¬ x12 = 0 → x6 = 1) (h7 : z0 = 0 → x7 = 0) (h7' : ¬ z0 = 0 → x7 = x1)
    (h8 : x12 = 0 ∨ x0 < x3 → x8 = -1) (h8' : ¬ (x12 = 0 ∨ x0 < x3) → x8 = x0)
    (h9 : x12 = 0 ∨ x2 < 0 ∨ 255 < x2 → x9 = -1) (h9' : ¬ (x12 = 0 ∨ x2 < 0 ∨ 255 < x2) → x9 = x0) (h10 : x4 = 0 → x10 = 1) (h10' : ¬ x4 = 0 → x10 = 0)
    (h : z0 = 0 → x11 = -1) (h' : ¬ z0 = 0 → x11 = 1) : wL_lawOf_93 post mc ms x0 x1 x2 x3 x4 x6 x7 x8 x9 x10 x11 x12 z0 kc ks := by
  have a122 : ∀ z, x7 = z → wL_lawOf_122 post mc ms x0 x2 x3 x4 x8 x9 x10 x11 x12 z0 z x7 kc ks := fun z hz =>
    br_t hz (br_c (fun e => sd_142 hp (h8 (.inl e)) h9 h9' h10 h10' h h') (fun e => br_c (fun e2 => sd_142 hp (h8 (.inr e2)) h9 h9' h10 h10' h h')
      (fun e2 => sd_142 hp (h8' (fun z => z.elim e e2)) h9 h9' h10 h10' h h')))
  have a107 : ∀ z, x6 = z → wL_lawOf_107 post mc ms x0 x1 x2 x3 x4 x7 x8 x9 x10 x11 x12 z0 z x6 kc ks := fun z hz =>
    br_t hz (br_c (fun e => a122 0 (h7 e)) (fun e => a122 x1 (h7' e)))
  exact br_c (fun e => a107 _ (h6 e)) (fun e => a107 _ (h6' e))
/-- the law for any five ints -/
theorem sd_law {post : Int32 → St0 → Prop} (p0 p1 p2 p3 p4 : Int32) (hp : post 1 ()) : wpL_lawOf post 298 4768 () p0 p1 p2 p3 p4 := by
  have c255 : ∀ x : Int32, 255 < x ↔ 256 ≤ x := by
    intro x
    have q1 : (255 : Int32).toInt = 255 := by decide
    have q2 : (256 : Int32).toInt = 256 := by decide
    rw [Int32.lt_iff_toInt_lt, Int32.le_iff_toInt_le, q1, q2]
    omega
  have h0 : sd_S False (nI 0) 0 (fun _ => 0) (upd (fun _ => 0) 0 1) (fun _ => 0) (fun _ => 0) (fun _ => 0) (fun _ => 0) :=
    ⟨rfl, pk_us, fun j hj => by rw [pk_un (by omega)], rfl, .inl ⟨fun z => z, rfl⟩⟩
  unfold wpL_lawOf
  refine ⟨by omega, by omega, 6, 909, by omega, by omega, ?_⟩
  unfold wpX_init
  refine ⟨by omega, by omega, by omega, by omega, by omega, by omega, by omega, by omega, by omega, by omega, by omega, by omega, nm_e ?_⟩
  refine sd_put h0 p0 p1 (fun hk a4 a5 a6 hS => ?_) (fun hk => ?_)
  · obtain ⟨t, ht, rfl⟩ : ∃ t : Nat, t < 256 ∧ p0 = nI t := by
      obtain ⟨t, ht, e⟩ := nI_of (x := p0) (fun z => hk (.inl z))
      refine ⟨t, ?_, e⟩
      rcases Nat.lt_or_ge t 256 with z | z
      · exact z
      · exact absurd (show (256 : Int32) ≤ p0 from by rw [e]; exact nI_le (a := 256) z ht) (fun q => hk (.inr q))
    refine sd_get hS (fun _ => hk) p2 (fun r52 g52 g52' => sd_next ht hS (fun _ => hk) p3 (fun r53 g53 g53' => sd_inb hS p2 (fun r54 g54 g54' => sd_od hS p4 (fun r55 g55 g55' =>
      sd_rm hS (fun _ => hk) p2 (fun r56 kc' b4 b5 b6 g56 g56' => ?_)))))
    have one : ¬ (1 : Int32) = 0 := by decide
    have e9 : 1 = (0 : Int32) ∨ p2 < 0 ∨ 255 < p2 → r54 = -1 := fun z => g54' (fun q => z.elim one (fun z => q.2 (z.elim .inl (fun z => .inr ((c255 p2).mp z)))))
    have e9' : ¬ (1 = (0 : Int32) ∨ p2 < 0 ∨ 255 < p2) → r54 = nI t := fun z => g54 ⟨trivial, fun q => z (.inr (q.elim .inl (fun q => .inr ((c255 p2).mpr q))))⟩
    have e8 : 1 = (0 : Int32) ∨ nI t < p3 → r53 = -1 := fun z => g53' (fun q => z.elim one q.2)
    have e8' : ¬ (1 = (0 : Int32) ∨ nI t < p3) → r53 = nI t := fun z => g53 ⟨trivial, fun q => z (.inr q)⟩
    refine br_f (fun z => hk (.inl z)) (br_f (fun z => hk (.inr ((c255 _).mp z))) (br_f one (br_c (fun e => ?_) (fun e => ?_))))
    · exact sd_93 hp (fun z => absurd z one) (fun _ => rfl) (fun z => absurd z one) (fun _ => g52 ⟨trivial, e⟩) e8 e8' e9 e9' g55 g55' (fun z => absurd z one) (fun _ => g56 ⟨trivial, e⟩)
    · exact sd_93 hp (fun z => absurd z one) (fun _ => rfl) (fun _ => g52' (fun q => e q.2)) (fun z => absurd rfl z) e8 e8' e9 e9' g55 g55' (fun _ => g56' (fun q => e q.2)) (fun z => absurd rfl z)
  · refine sd_get h0 (fun z => z.elim) p2 (fun r52 g52 g52' => sd_next (t := 0) (by omega) h0 (fun z => z.elim) p3 (fun r53 g53 g53' => sd_inb h0 p2 (fun r54 g54 g54' => sd_od h0 p4 (fun r55 g55 g55' =>
      sd_rm h0 (fun z => z.elim) p2 (fun r56 kc' b4 b5 b6 g56 g56' => ?_)))))
    have fin : ∀ mc ms kc ks : Nat, wL_lawOf_75 post mc ms p0 p1 p2 p3 p4 (-1) r52 r53 r54 r55 r56 kc ks := fun mc ms kc ks =>
      br_t rfl (sd_93 hp (fun _ => rfl) (fun z => absurd rfl z) (fun _ => g52' (fun q => q.1)) (fun z => absurd rfl z) (fun _ => g53' (fun q => q.1)) (fun z => absurd (.inl rfl) z)
        (fun _ => g54' (fun q => q.1)) (fun z => absurd (.inl rfl) z) g55 g55' (fun _ => g56' (fun q => q.1)) (fun z => absurd rfl z))
    exact br_c (fun _ => fin _ _ _ _) (fun e => br_t (hk.elim (fun z => absurd z e) (fun z => (c255 p0).mpr z)) (fin _ _ _ _))
theorem i_vc (xs : Nat → Int32) (L : Nat) (hL : L ≤ 5) : wpL_law (fun r => r = 1) L xs := by
  unfold wpL_law
  exact sd_ca hL 0 rfl (by omega) (fun r1 => sd_ca hL 1 rfl (by omega) (fun r2 => sd_ca hL 2 rfl (by omega) (fun r3 => sd_ca hL 3 rfl (by omega) (fun r4 => sd_ca hL 4 rfl (by omega)
    (fun r5 => ⟨298, 4768, by omega, by omega, sd_law r1 r2 r3 r4 r5 rfl⟩)))))
end

section
/-! indices: the int that is counted, as a natural number -/
theorem zo_3 (a b : Nat) : (3 : Int32) * nI a + nI b = nI (3 * a + b) := by
  show nI 3 * nI a + nI b = _
  rw [pk_mul, nI_add]
theorem zo_49 (a b : Nat) : (49 : Int32) * nI a + nI b = nI (49 * a + b) := by
  show nI 49 * nI a + nI b = _
  rw [pk_mul, nI_add]
theorem zo_24b (a e : Nat) : (24 : Int32) * nI a + 3 * nI e = nI (24 * a + 3 * e) := by
  show nI 24 * nI a + nI 3 * nI e = _
  rw [pk_mul, pk_mul, nI_add]
theorem zo_24 (a e b : Nat) : (24 : Int32) * nI a + 3 * nI e + nI b = nI (24 * a + 3 * e + b) := by
  rw [zo_24b, nI_add]
theorem zo_u0 {s : Nat → Int32} {k : Nat} (h : ∀ j, s j = 0) : ∀ j, upd s k 0 j = 0 := by
  intro j
  by_cases e : j = k
  · rw [e, pk_us]
  · rw [pk_un e]
    exact h j
theorem zo_fill {t g : Nat → Int32} {k r i : Nat} (h : ∀ j, j < i → t (3 * k + j) = g (3 * r + j)) : ∀ j, j < i + 1 → upd t (3 * k + i) (g (3 * r + i)) (3 * k + j) = g (3 * r + j) := by
  intro j hj
  by_cases e : j = i
  · rw [e, pk_us]
  · rw [pk_un (by omega)]
    exact h j (by omega)
section
variable {f : Int32} {a1 a2 a3 a4 a5 a6 a7 a8 a9 a10 : Nat → Int32} {r o k e c n : Nat}
/-! isReplica -/
theorem zo_irI {post : Int32 → Prop} (hr : r < 3) (h : post 1) : wpX_isReplica post () (nI r) :=
  pk_lt r 0 (fun z => absurd z (by omega)) (fun _ => pk_lt 2 r (fun z => absurd z (by omega)) (fun _ => h))
theorem zo_irO {post : Int32 → Prop} {p : Int32} (hp : p < 0 ∨ 2 < p) (h : post 0) : wpX_isReplica post () p :=
  br_c (fun _ => h) (fun z => br_t (hp.resolve_left z) h)
/-! dropAssigns where no assign survives: nothing to drop -/
theorem zo_dropAs {post : St2 → Prop} (hr : r < 3) (hk : k < 48) (h0 : ∀ j, a10 j = 0) (H : ∀ b : Nat → Int32, (∀ j, b j = 0) → post (f, a1, a2, a3, a4, a5, a6, a7, a8, a9, b)) : wpX_dropAssigns post (f, a1, a2, a3, a4, a5, a6, a7, a8, a9, a10) (nI r) (nI k) :=
  pk_loop (fun n i s => wX_dropAssigns_2 post (nI r) (nI k) f n (nI i) a1 a2 a3 a4 a5 a6 a7 a8 a9 s) (fun _ s => ∀ j, s j = 0) 3 0 a10 (by omega) h0
    (fun n s h => pk_le 3 3 (fun _ => H s h) (fun z => absurd z (by omega)))
    (fun n i s hi h hw => pk_le 3 i (fun z => absurd z (by omega)) (fun _ => nm_r (zo_3 r i) ⟨pk_in (3 * r + i) 9 (by omega), pk_in (3 * k + i) 144 (by omega) (zo_3 k i), br_c (fun _ => nm_r (nI_1 i) (hw s h)) (fun _ => ⟨pk_in (3 * r + i) 9 (by omega), nm_e (nm_r (nI_1 i) (hw _ (zo_u0 h)))⟩)⟩))
/-! apply -/
theorem zo_ap128 {post : St2 → Prop} {w : Int32} (hr : r < 3) (ho : o < 3) (H : post (f, a1, a2, a3, a4, a5, a6, upd a7 (3 * r + o) w, a8, a9, a10)) : wX_apply_128 post (nI r) (nI o) w f a1 a2 a3 a4 a5 a6 a7 a8 a9 a10 :=
  ⟨pk_in (3 * r + o) 9 (by omega) (zo_3 r o), nm_r (by rw [zo_3, nI_clamp (by omega)]) H⟩
theorem zo_apAdd {post : St2 → Prop} {w : Int32} (hr : r < 3) (ho : o < 3) (hk : k < 48) (he : e < 8) (h1 : a1 k = 0) (h2 : a2 k = nI e) (H : post (f, a1, a2, a3, a4, a5, a6, upd a7 (3 * r + o) w, a8, upd a9 (24 * r + 3 * e + o) w, a10)) : wpX_apply post (f, a1, a2, a3, a4, a5, a6, a7, a8, a9, a10) (nI r) (nI k) (nI o) w := by
  have ck : (nI k).toNatClampNeg = k := nI_clamp (by omega)
  refine ⟨vp_in_nI hk (by omega), nm_r (by rw [ck]; exact h1) (br_t rfl ⟨vp_in_nI hk (by omega), pk_in (24 * r + 3 * e + o) 72 (by omega) (by rw [ck, h2]; exact zo_24 r e o), ?_⟩)⟩
  exact nm_r (e' := upd a9 (24 * r + 3 * e + o) w) (by rw [ck, h2, zo_24, nI_clamp (by omega)]) (zo_ap128 hr ho H)
theorem zo_apAs {post : St2 → Prop} {w : Int32} (hr : r < 3) (ho : o < 3) (hk : k < 48) (h1 : a1 k = 2) (h10 : ∀ j, a10 j = 0) (H : ∀ b : Nat → Int32, (∀ j, b j = 0) → post (f, a1, a2, a3, a4, a5, a6, upd a7 (3 * r + o) w, a8, a9, upd b (3 * r + o) w)) : wpX_apply post (f, a1, a2, a3, a4, a5, a6, a7, a8, a9, a10) (nI r) (nI k) (nI o) w := by
  have ck : (nI k).toNatClampNeg = k := nI_clamp (by omega)
  refine ⟨vp_in_nI hk (by omega), nm_r (e' := 2) (by rw [ck]; exact h1) (br_f (by decide) (br_f (by decide) (br_t rfl (zo_dropAs hr hk h10 (fun b hb => ⟨pk_in (3 * r + o) 9 (by omega) (zo_3 r o), ?_⟩)))))⟩
  exact nm_r (e' := upd b (3 * r + o) w) (by rw [zo_3, nI_clamp (by omega)]) (zo_ap128 hr ho (H b hb))
/-! make: all but the apply at its end -/
theorem zo_make {post : Int32 → St2 → Prop} {s v : Int32} (hr : r < 3) (hk : k < 48) (hc : c < 40) (hs : ¬ s = 3) (h4 : a4 r = nI c)
    (H : ∀ (b3 b6 : Nat → Int32) (ψ : St2 → Prop), (∀ j, j < 3 → b3 (3 * k + j) = a7 (3 * r + j)) → (∀ (g : Int32) (c1 c2 c3 c4 c5 c6 c7 c8 c9 c10 : Nat → Int32), post g (g, c1, c2, c3, c4, c5, c6, c7, c8, c9, c10) → ψ (g, c1, c2, c3, c4, c5, c6, c7, c8, c9, c10)) →
      wpX_apply ψ (nI (k + 1), upd a1 k s, upd a2 k v, b3, upd a4 r (nI (c + 1)), upd a5 (49 * r + (c + 1)) (nI k), b6, a7, a8, a9, a10) (nI r) (nI k) (nI r) (nI (c + 1))) :
    wpX_make post (nI k, a1, a2, a3, a4, a5, a6, a7, a8, a9, a10) (nI r) s v := by
  have ck : (nI k).toNatClampNeg = k := nI_clamp (by omega)
  have cr : (nI r).toNatClampNeg = r := nI_clamp (by omega)
  unfold wpX_make
  refine zo_irI hr (br_f (by decide) (pk_lt k 48 (fun _ => nm_r (nI_1 k) ⟨vp_in_nI hk (by omega), nm_r (e' := upd a1 k s) (by rw [ck]) ⟨vp_in_nI hk (by omega), nm_r (e' := upd a2 k v) (by rw [ck]) ?_⟩⟩) (fun z => absurd z (by omega))))
  refine pk_loop (fun n i t => wX_make_53 post (nI r) s v (nI k) (nI (k + 1)) n (nI i) (upd a1 k s) (upd a2 k v) t a4 a5 a6 a7 a8 a9 a10) (fun i t => ∀ j, j < i → t (3 * k + j) = a7 (3 * r + j)) 3 0 a3 (by omega) (fun j hj => absurd hj (by omega)) ?_ ?_
  · intro n t h
    refine pk_le 3 3 (fun _ => ⟨vp_in_nI hr (by omega), nm_r (e' := nI (c + 1)) (by rw [cr, h4, nI_1]) ⟨vp_in_nI hr (by omega), nm_r (e' := upd a4 r (nI (c + 1))) (by rw [cr]) ⟨pk_in (49 * r + (c + 1)) 147 (by omega) (zo_49 r (c + 1)), nm_r (e' := upd a5 (49 * r + (c + 1)) (nI k)) (by rw [zo_49, nI_clamp (by omega)]) ⟨pk_in (49 * r + c) 147 (by omega) (by rw [zo_49]; exact nI_pred (49 * r + c)), br_f hs ?_⟩⟩⟩⟩) (fun z => absurd z (by omega))
    exact ⟨pk_in (49 * r + (c + 1)) 147 (by omega) (zo_49 r (c + 1)), fun b6 _ => H t b6 _ h (fun _ _ _ _ _ _ _ _ _ _ _ hp => hp)⟩
  · intro n i t hi h hw
    exact pk_le 3 i (fun z => absurd z (by omega)) (fun _ => ⟨pk_in (3 * r + i) 9 (by omega) (zo_3 r i), pk_in (3 * k + i) 144 (by omega) (zo_3 k i), nm_r (e' := upd t (3 * k + i) (a7 (3 * r + i))) (by rw [zo_3, zo_3, nI_clamp (by omega), nI_clamp (by omega)]) (nm_r (nI_1 i) (hw _ (zo_fill h)))⟩)
theorem zo_makeO {post : Int32 → St2 → Prop} {p s v : Int32} (hp : p < 0 ∨ 2 < p) (H : post (-1) (f, a1, a2, a3, a4, a5, a6, a7, a8, a9, a10)) : wpX_make post (f, a1, a2, a3, a4, a5, a6, a7, a8, a9, a10) p s v := by
  unfold wpX_make
  exact zo_irO hp (br_t rfl H)
/-! add, assign -/
theorem zo_add {post : Int32 → St2 → Prop} {el : Int32} (hr : r < 3) (hk : k < 48) (hc : c < 40) (he : e < 8) (hel : el &&& 7 = nI e) (h4 : a4 r = nI c)
    (H : ∀ b3 b6 : Nat → Int32, (∀ j, j < 3 → b3 (3 * k + j) = a7 (3 * r + j)) →
      post (nI (k + 1)) (nI (k + 1), upd a1 k 0, upd a2 k (nI e), b3, upd a4 r (nI (c + 1)), upd a5 (49 * r + (c + 1)) (nI k), b6, upd a7 (3 * r + r) (nI (c + 1)), a8, upd a9 (24 * r + 3 * e + r) (nI (c + 1)), a10)) :
    wpX_add post (nI k, a1, a2, a3, a4, a5, a6, a7, a8, a9, a10) (nI r) el := by
  unfold wpX_add
  rw [hel]
  exact zo_make hr hk hc (by decide) h4 (fun b3 b6 ψ h hψ => zo_apAdd hr hr hk he pk_us pk_us (hψ _ _ _ _ _ _ _ _ _ _ _ (H b3 b6 h)))
theorem zo_assign {post : Int32 → St2 → Prop} {v : Int32} (hr : r < 3) (hk : k < 48) (hc : c < 40) (h4 : a4 r = nI c) (h10 : ∀ j, a10 j = 0)
    (H : ∀ b3 b6 b : Nat → Int32, (∀ j, b j = 0) →
      post (nI (k + 1)) (nI (k + 1), upd a1 k 2, upd a2 k v, b3, upd a4 r (nI (c + 1)), upd a5 (49 * r + (c + 1)) (nI k), b6, upd a7 (3 * r + r) (nI (c + 1)), a8, a9, upd b (3 * r + r) (nI (c + 1)))) :
    wpX_assign post (nI k, a1, a2, a3, a4, a5, a6, a7, a8, a9, a10) (nI r) v := by
  unfold wpX_assign
  exact zo_make hr hk hc (by decide) h4 (fun b3 b6 ψ _ hψ => zo_apAs hr hr hk pk_us h10 (fun b hb => hψ _ _ _ _ _ _ _ _ _ _ _ (H b3 b6 b hb)))
/-! has: d is the first origin with a surviving add, or 3 -/
theorem zo_has {post : Int32 → Prop} {el : Int32} (ho : o < 3) (he : e < 8) (hel : el &&& 7 = nI e) (d : Nat) (hd : d ≤ 3) (h0 : ∀ j, j < d → a9 (24 * o + 3 * e + j) = 0) (h1 : d < 3 → ¬ a9 (24 * o + 3 * e + d) ≤ 0) (H0 : d = 3 → post 0) (H1 : d < 3 → post 1) : wpX_has post (f, a1, a2, a3, a4, a5, a6, a7, a8, a9, a10) (nI o) el := by
  unfold wpX_has
  refine zo_irI ho (br_f (by decide) (nm_r (e' := nI (24 * o + 3 * e)) (by rw [hel]; exact zo_24b o e) ?_))
  exact pk_loop (σ := Unit) (fun n i _ => wX_has_24 post (nI (24 * o + 3 * e)) f a1 a2 a3 a4 a5 a6 a7 a8 a9 a10 n (nI i)) (fun _ _ => True) d 0 () (by omega) trivial
    (fun n _ _ => pk_le 3 d (fun z => H0 (by omega)) (fun z => ⟨pk_in (24 * o + 3 * e + d) 72 (by omega) (nI_add _ _), br_f (by rw [nI_add, nI_clamp (by omega)]; exact h1 z) (H1 z)⟩))
    (fun n i _ hi _ hw => pk_le 3 i (fun z => absurd z (by omega)) (fun _ => ⟨pk_in (24 * o + 3 * e + i) 72 (by omega) (nI_add _ _), br_t (by rw [nI_add, nI_clamp (by omega), h0 i hi]; decide) (nm_r (nI_1 i) (hw () trivial))⟩))
/-! known -/
theorem zo_known {post : Int32 → Prop} {x : Int32} (hr : r < 3) (ho : o < 3) (h : a7 (3 * r + o) = x) (H : post x) : wpX_known post (f, a1, a2, a3, a4, a5, a6, a7, a8, a9, a10) (nI r) (nI o) := by
  unfold wpX_known
  exact zo_irI hr (br_f (by decide) (zo_irI ho (br_f (by decide) ⟨pk_in (3 * r + o) 9 (by omega) (zo_3 r o), by rw [zo_3, nI_clamp (by omega), h]; exact H⟩)))
theorem zo_knownO {post : Int32 → Prop} {p q : Int32} (h : p < 0 ∨ 2 < p) (H : post (-1)) : wpX_known post (f, a1, a2, a3, a4, a5, a6, a7, a8, a9, a10) p q := by
  unfold wpX_known
  exact zo_irO h (br_t rfl H)
theorem zo_knownIO {post : Int32 → Prop} {q : Int32} (hr : r < 3) (h : q < 0 ∨ 2 < q) (H : post (-1)) : wpX_known post (f, a1, a2, a3, a4, a5, a6, a7, a8, a9, a10) (nI r) q := by
  unfold wpX_known
  exact zo_irI hr (br_f (by decide) (zo_irO h (br_t rfl H)))
/-! deliver -/
theorem zo_delO {post : Int32 → St2 → Prop} {p q : Int32} (h : p < 0 ∨ 2 < p) (H : post (-1) (f, a1, a2, a3, a4, a5, a6, a7, a8, a9, a10)) : wpX_deliver post (f, a1, a2, a3, a4, a5, a6, a7, a8, a9, a10) p q := by
  unfold wpX_deliver
  exact zo_irO h (br_t rfl H)
theorem zo_delIO {post : Int32 → St2 → Prop} {q : Int32} (hr : r < 3) (h : q < 0 ∨ 2 < q) (H : post (-1) (f, a1, a2, a3, a4, a5, a6, a7, a8, a9, a10)) : wpX_deliver post (f, a1, a2, a3, a4, a5, a6, a7, a8, a9, a10) (nI r) q := by
  unfold wpX_deliver
  exact zo_irI hr (br_f (by decide) (zo_irO h (br_t rfl H)))
theorem zo_delSame {post : Int32 → St2 → Prop} (hr : r < 3) (hc : c < 40) (h7 : a7 (3 * r + r) = nI c) (h4 : a4 r = nI c) (H : post (-1) (f, a1, a2, a3, a4, a5, a6, a7, a8, a9, a10)) : wpX_deliver post (f, a1, a2, a3, a4, a5, a6, a7, a8, a9, a10) (nI r) (nI r) := by
  have cr : (nI r).toNatClampNeg = r := nI_clamp (by omega)
  unfold wpX_deliver
  exact zo_irI hr (br_f (by decide) (zo_irI hr (br_f (by decide) ⟨pk_in (3 * r + r) 9 (by omega) (zo_3 r r), nm_r (e' := nI (c + 1)) (by rw [zo_3, nI_clamp (by omega), h7, nI_1]) ⟨vp_in_nI hr (by omega), br_f (by rw [cr, h4]; exact nI_ge (by omega) (by omega)) H⟩⟩)))
theorem zo_delNew {post : Int32 → St2 → Prop} (hr : r < 3) (ho : o < 3) (he : e < 8) (h7 : ∀ j, j < 3 → a7 (3 * o + j) = 0) (h4 : a4 r = nI 1) (h5 : a5 (49 * r + 1) = nI 0) (h3 : ∀ j, j < 3 → a3 j = 0) (h1 : a1 0 = 0) (h2 : a2 0 = nI e)
    (H : post 0 (f, a1, a2, a3, a4, a5, a6, upd a7 (3 * o + r) (nI 1), a8, upd a9 (24 * o + 3 * e + r) (nI 1), a10)) : wpX_deliver post (f, a1, a2, a3, a4, a5, a6, a7, a8, a9, a10) (nI r) (nI o) := by
  have cr : (nI r).toNatClampNeg = r := nI_clamp (by omega)
  unfold wpX_deliver
  refine zo_irI hr (br_f (by decide) (zo_irI ho (br_f (by decide) ⟨pk_in (3 * o + r) 9 (by omega) (zo_3 o r), nm_r (e' := nI 1) (by rw [zo_3, nI_clamp (by omega), h7 r hr]; rfl) ⟨vp_in_nI hr (by omega), br_t (by rw [cr, h4]; exact nI_le (by omega) (by omega)) ⟨pk_in (49 * r + 1) 147 (by omega) (zo_49 r 1), nm_r (e' := nI 0) (by rw [zo_49, nI_clamp (by omega), h5]) ?_⟩⟩⟩)))
  exact pk_loop (σ := Unit) (fun n i _ => wX_deliver_57 post (nI r) (nI o) (nI 1) (nI 0) f a1 a2 a3 a4 a5 a6 a7 a8 a9 a10 n (nI i)) (fun _ _ => True) 3 0 () (by omega) trivial
    (fun n _ _ => pk_le 3 3 (fun _ => zo_apAdd ho hr (by omega) he h1 h2 H) (fun z => absurd z (by omega)))
    (fun n i _ hi _ hw => pk_le 3 i (fun z => absurd z (by omega)) (fun _ => ⟨pk_in (3 * 0 + i) 144 (by omega) (zo_3 0 i), pk_in (3 * o + i) 9 (by omega) (zo_3 o i), br_t (by rw [zo_3, zo_3, nI_clamp (by omega), nI_clamp (by omega), h7 i hi, show 3 * 0 + i = i by omega, h3 i hi]; decide) (nm_r (nI_1 i) (hw () trivial))⟩))
/-! value: the one surviving assign at the replica is its own -/
theorem zo_vf {post : Int32 → Prop} {v : Int32} (ho : o < 3) (hn : n < 40) (hk : k < 48) (h10 : a10 (3 * o + o) = nI n) (h5 : a5 (49 * o + n) = nI k) (h2 : a2 k = v) (H : post v) : wpX_valueFrom post (f, a1, a2, a3, a4, a5, a6, a7, a8, a9, a10) (nI o) (nI o) := by
  have e1 : ((3 : Int32) * nI o + nI o).toNatClampNeg = 3 * o + o := by rw [zo_3, nI_clamp (by omega)]
  exact ⟨pk_in (3 * o + o) 9 (by omega) (zo_3 o o), pk_in (49 * o + n) 147 (by omega) (by rw [e1, h10]; exact zo_49 o n), nm_r (e' := nI k) (by rw [e1, h10, zo_49, nI_clamp (by omega), h5]) ⟨vp_in_nI hk (by omega), by rw [nI_clamp (by omega), h2]; exact H⟩⟩
theorem zo_place {post : Int32 → Prop} {v : Int32} (ho : o < 3) (hn : n < 40) (hk : k < 48) (h10 : a10 (3 * o + o) = nI n) (hz : ∀ j, j < 3 → j ≠ o → a10 (3 * o + j) = 0) (h5 : a5 (49 * o + n) = nI k) (h2 : a2 k = v) (H : post 0) : wpX_placeOfValue post (f, a1, a2, a3, a4, a5, a6, a7, a8, a9, a10) (nI o) (nI o) := by
  unfold wpX_placeOfValue
  refine zo_vf ho hn hk h10 h5 h2 ?_
  exact pk_loop (σ := Unit) (fun n i _ => wX_placeOfValue_13 post (nI o) (nI o) v f a1 a2 a3 a4 a5 a6 a7 a8 a9 a10 n 0 (nI i)) (fun _ _ => True) 3 0 () (by omega) trivial
    (fun n _ _ => pk_le 3 3 (fun _ => H) (fun z => absurd z (by omega)))
    (fun n i _ hi _ hw => pk_le 3 i (fun z => absurd z (by omega)) (fun _ => pk_eq i o (fun _ => nm_r (nI_1 i) (hw () trivial)) (fun ne => ⟨pk_in (3 * o + i) 9 (by omega) (zo_3 o i), br_t (by rw [zo_3, nI_clamp (by omega), hz i hi ne]; decide) (nm_r (nI_1 i) (hw () trivial))⟩)))
theorem zo_value {post : Int32 → Prop} {v : Int32} (ho : o < 3) (h0 : 0 < n) (hn : n < 40) (hk : k < 48) (h10 : a10 (3 * o + o) = nI n) (hz : ∀ j, j < 3 → j ≠ o → a10 (3 * o + j) = 0) (h5 : a5 (49 * o + n) = nI k) (h2 : a2 k = v) (H : post v) : wpX_value post (f, a1, a2, a3, a4, a5, a6, a7, a8, a9, a10) (nI o) 0 := by
  unfold wpX_value
  refine zo_irI ho (br_f (by decide) ?_)
  exact pk_loop (σ := Unit) (fun n i _ => wX_value_11 post (nI o) 0 f a1 a2 a3 a4 a5 a6 a7 a8 a9 a10 n (nI i)) (fun _ _ => True) o 0 () (by omega) trivial
    (fun n' _ _ => pk_le 3 o (fun z => absurd z (by omega)) (fun _ => ⟨pk_in (3 * o + o) 9 (by omega) (zo_3 o o), br_f (by rw [zo_3, nI_clamp (by omega), h10]; exact nI_nle h0 (by omega)) (zo_place ho hn hk h10 hz h5 h2 (br_t rfl (zo_vf ho hn hk h10 h5 h2 H)))⟩))
    (fun n' i _ hi _ hw => pk_le 3 i (fun z => absurd z (by omega)) (fun _ => ⟨pk_in (3 * o + i) 9 (by omega) (zo_3 o i), br_t (by rw [zo_3, nI_clamp (by omega), hz i (by omega) (by omega)]; decide) (nm_r (nI_1 i) (hw () trivial))⟩))
theorem zo_valueO {post : Int32 → Prop} {p q : Int32} (h : p < 0 ∨ 2 < p) (H : post 0) : wpX_value post (f, a1, a2, a3, a4, a5, a6, a7, a8, a9, a10) p q := by
  unfold wpX_value
  exact zo_irO h (br_t rfl H)
theorem zo_hasO {post : Int32 → Prop} {p q : Int32} (h : p < 0 ∨ 2 < p) (H : post (-1)) : wpX_has post (f, a1, a2, a3, a4, a5, a6, a7, a8, a9, a10) p q := by
  unfold wpX_has
  exact zo_irO h (br_t rfl H)
theorem zo_assignO {post : Int32 → St2 → Prop} {p v : Int32} (hp : p < 0 ∨ 2 < p) (H : post (-1) (f, a1, a2, a3, a4, a5, a6, a7, a8, a9, a10)) : wpX_assign post (f, a1, a2, a3, a4, a5, a6, a7, a8, a9, a10) p v := by
  unfold wpX_assign
  exact zo_makeO hp H
theorem zo_addO {post : Int32 → St2 → Prop} {p v : Int32} (hp : p < 0 ∨ 2 < p) (H : post (-1) (f, a1, a2, a3, a4, a5, a6, a7, a8, a9, a10)) : wpX_add post (f, a1, a2, a3, a4, a5, a6, a7, a8, a9, a10) p v := by
  unfold wpX_add
  exact zo_makeO hp H
end
end
section
/-! the law's last two checks: assign and value -/
theorem zo_in {p : Int32} (h : ¬ p < 0) (h2 : ¬ 2 < p) : ∃ j : Nat, j < 3 ∧ p = nI j := by
  obtain ⟨j, hj, e⟩ := nI_of2 (M := 2) (n := 2) (by decide) h (Int32.not_lt.mp h2)
  exact ⟨j, by omega, e⟩
section
variable {f : Int32} {a1 a2 a3 a4 a5 a6 a7 a8 a9 a10 : Nat → Int32} {r o k e c : Nat} {post : Int32 → St0 → Prop} {mc ms kc ks : Nat} {p q el v z : Int32}
theorem zo_162O (hp : post 1 ()) (h : q < 0 ∨ 2 < q) {x5 : Int32} : wL_lawOf_162 post mc ms q v x5 0 z z kc ks f a1 a2 a3 a4 a5 a6 a7 a8 a9 a10 :=
  br_t rfl (zo_assignO h (br_t rfl (br_t rfl (zo_valueO h (br_t rfl (br_t rfl hp))))))
theorem zo_162I (hp : post 1 ()) (ho : o < 3) (hk : k < 2) (hc : c < 2) (h4 : a4 o = nI c) (h10 : ∀ j, a10 j = 0) : wL_lawOf_162 post mc ms (nI o) v (nI k) 1 z z kc ks (nI k) a1 a2 a3 a4 a5 a6 a7 a8 a9 a10 := by
  refine br_t rfl (zo_assign ho (by omega) (by omega) h4 h10 (fun b3 b6 b hb => br_f (by decide) ?_))
  have V : ∀ g : Int32, wL_lawOf_193 post mc ms (nI o) v 1 g g kc ks (nI (k + 1)) (upd a1 k 2) (upd a2 k v) b3 (upd a4 o (nI (c + 1))) (upd a5 (49 * o + (c + 1)) (nI k)) b6 (upd a7 (3 * o + o) (nI (c + 1))) a8 a9 (upd b (3 * o + o) (nI (c + 1))) := fun g =>
    br_t rfl (zo_value (n := c + 1) (k := k) (v := v) ho (by omega) (by omega) (by omega) pk_us (fun j hj ne => by rw [pk_un (by omega)]; exact hb _) pk_us pk_us (br_f (by decide) (br_t rfl hp)))
  have hk' : k = 0 ∨ k = 1 := by omega
  rcases hk' with rfl | rfl
  · exact br_t rfl (V (nI 1))
  · exact br_f (by decide) (V (nI 2))
/-! the four roads of the law -/
theorem zo_oo (hp : post 1 ()) (h0 : p < 0 ∨ 2 < p) (h2 : q < 0 ∨ 2 < q) : wL_lawOf_39 post mc ms p el q v 0 0 kc ks f a1 a2 a3 a4 a5 a6 a7 a8 a9 a10 :=
  zo_addO h0 (br_t rfl (br_t rfl (zo_hasO h2 (br_t rfl (br_t rfl (zo_knownO h0 (br_t rfl (br_t rfl (zo_delO h0 (br_t rfl (zo_162O hp h2)))))))))))
theorem zo_oi (hp : post 1 ()) (h0 : p < 0 ∨ 2 < p) (ho : o < 3) (he : e < 8) (hel : el &&& 7 = nI e) : wL_lawOf_39 post mc ms p el (nI o) v 0 1 kc ks (nI 0) (fun _ => 0) (fun _ => 0) (fun _ => 0) (fun _ => 0) (fun _ => 0) (fun _ => 0) (fun _ => 0) (fun _ => 0) (fun _ => 0) (fun _ => 0) :=
  zo_addO h0 (br_t rfl (br_t rfl (zo_has ho he hel 3 (by omega) (fun _ _ => rfl) (fun z => absurd z (by omega)) (fun _ => br_f (by decide) (br_t rfl (br_t rfl (zo_knownO h0 (br_t rfl (br_t rfl (zo_delO h0 (br_t rfl (zo_162I (k := 0) (c := 0) hp ho (by omega) (by omega) rfl (fun _ => rfl)))))))))) (fun z => absurd z (by omega)))))
theorem zo_io (hp : post 1 ()) (hr : r < 3) (h2 : q < 0 ∨ 2 < q) (he : e < 8) (hel : el &&& 7 = nI e) : wL_lawOf_39 post mc ms (nI r) el q v 1 0 kc ks (nI 0) (fun _ => 0) (fun _ => 0) (fun _ => 0) (fun _ => 0) (fun _ => 0) (fun _ => 0) (fun _ => 0) (fun _ => 0) (fun _ => 0) (fun _ => 0) :=
  zo_add (k := 0) (c := 0) hr (by omega) (by omega) he hel rfl (fun b3 b6 h => br_f (by decide) (br_t rfl (zo_hasO h2 (br_t rfl (br_t rfl (zo_knownIO hr h2 (br_f (by decide) (br_t rfl (br_t rfl (zo_delIO hr h2 (br_f (by decide) (br_t rfl (zo_162O hp h2)))))))))))))
theorem zo_is (hp : post 1 ()) (hr : r < 3) (he : e < 8) (hel : el &&& 7 = nI e) : wL_lawOf_39 post mc ms (nI r) el (nI r) v 1 1 kc ks (nI 0) (fun _ => 0) (fun _ => 0) (fun _ => 0) (fun _ => 0) (fun _ => 0) (fun _ => 0) (fun _ => 0) (fun _ => 0) (fun _ => 0) (fun _ => 0) := by
  refine zo_add (k := 0) (c := 0) hr (by omega) (by omega) he hel rfl (fun b3 b6 h => br_f (by decide) (br_t rfl ?_))
  refine zo_has hr he hel r (by omega) (fun j hj => by rw [pk_un (by omega)]) (fun _ => by rw [pk_us]; decide) (fun z => absurd z (by omega)) (fun _ => br_f (by decide) (br_f (by decide) (br_t rfl (br_t rfl ?_))))
  refine zo_known hr hr pk_us (br_f (by decide) (br_f (by decide) (br_t rfl (br_t rfl ?_))))
  refine zo_delSame (c := 1) hr (by omega) pk_us pk_us (br_f (by decide) (br_f (by decide) (br_t rfl ?_)))
  exact zo_162I (k := 1) (c := 1) hp hr (by omega) (by omega) pk_us (fun _ => rfl)
theorem zo_id (hp : post 1 ()) (hr : r < 3) (ho : o < 3) (hne : o ≠ r) (he : e < 8) (hel : el &&& 7 = nI e) : wL_lawOf_39 post mc ms (nI r) el (nI o) v 1 1 kc ks (nI 0) (fun _ => 0) (fun _ => 0) (fun _ => 0) (fun _ => 0) (fun _ => 0) (fun _ => 0) (fun _ => 0) (fun _ => 0) (fun _ => 0) (fun _ => 0) := by
  have ne : ¬ nI o = nI r := fun g => hne ((nI_eq (by omega) (by omega)).mp g)
  refine zo_add (k := 0) (c := 0) hr (by omega) (by omega) he hel rfl (fun b3 b6 h => br_f (by decide) (br_t rfl ?_))
  refine zo_has ho he hel 3 (by omega) (fun j hj => by rw [pk_un (by omega)]) (fun g => absurd g (by omega)) (fun _ => br_f (by decide) (br_f (by decide) (br_f ne (br_t rfl ?_)))) (fun g => absurd g (by omega))
  refine zo_known (x := 0) hr ho (by rw [pk_un (by omega)]) (br_f (by decide) (br_f (by decide) (br_f ne (br_t rfl ?_))))
  refine zo_delNew hr ho he (fun j hj => by rw [pk_un (by omega)]) pk_us pk_us (fun j hj => by have t := h j hj; rw [show 3 * 0 + j = j by omega] at t; exact t) pk_us pk_us (br_f (by decide) (br_f (by decide) (br_f ne ?_)))
  exact zo_162I (k := 1) (c := 0) hp ho (by omega) (by omega) (by rw [pk_un (by omega)]; rfl) (fun _ => rfl)
theorem zo_23O (hp : post 1 ()) (h0 : p < 0 ∨ 2 < p) : wL_lawOf_23 post mc ms p el q v 0 kc ks (nI 0) (fun _ => 0) (fun _ => 0) (fun _ => 0) (fun _ => 0) (fun _ => 0) (fun _ => 0) (fun _ => 0) (fun _ => 0) (fun _ => 0) (fun _ => 0) := by
  obtain ⟨e, he, hel⟩ := pk_andE el (m := 7) 3 (by decide)
  refine br_c (fun g => zo_oo hp h0 (Or.inl g)) (fun g => br_c (fun g2 => zo_oo hp h0 (Or.inr g2)) (fun g2 => ?_))
  obtain ⟨o, ho, rfl⟩ := zo_in g g2
  exact zo_oi hp h0 ho he hel
theorem zo_23I (hp : post 1 ()) (hr : r < 3) : wL_lawOf_23 post mc ms (nI r) el q v 1 kc ks (nI 0) (fun _ => 0) (fun _ => 0) (fun _ => 0) (fun _ => 0) (fun _ => 0) (fun _ => 0) (fun _ => 0) (fun _ => 0) (fun _ => 0) (fun _ => 0) := by
  obtain ⟨e, he, hel⟩ := pk_andE el (m := 7) 3 (by decide)
  refine br_c (fun g => zo_io hp hr (Or.inl g) he hel) (fun g => br_c (fun g2 => zo_io hp hr (Or.inr g2) he hel) (fun g2 => ?_))
  obtain ⟨o, ho, rfl⟩ := zo_in g g2
  by_cases hne : o = r
  · subst hne
    exact zo_is hp hr he hel
  · exact zo_id hp hr ho hne he hel
theorem zo_lawOf (hp : post 1 ()) : wpL_lawOf post 20 1000 () p el q v := by
  refine ⟨by omega, by omega, 10, 636, by omega, by omega, ⟨by omega, by omega, by omega, by omega, by omega, by omega, by omega, by omega, by omega, by omega, by omega, by omega, by omega, by omega, by omega, by omega, by omega, by omega, by omega, by omega, ?_⟩⟩
  refine br_c (fun g => zo_23O hp (Or.inl g)) (fun g => br_c (fun g2 => zo_23O hp (Or.inr g2)) (fun g2 => ?_))
  obtain ⟨r, hr, rfl⟩ := zo_in g g2
  exact zo_23I hp hr
end
end
section
theorem zo_cell {post : Int32 → Prop} {L : Nat} {xs : Nat → Int32} (hL : L ≤ 4) (j : Nat) (hj : j < 4) (H : ∀ x, post x) : wpL_cellAt post L xs () (nI j) :=
  pk_le L j (fun _ => H _) (fun z => ⟨vp_in_nI z (by omega), H _⟩)
theorem i_vc (xs : Nat → Int32) (L : Nat) (hL : L ≤ 4) : wpL_law (fun r => r = 1) L xs :=
  zo_cell hL 0 (by omega) (fun _ => zo_cell hL 1 (by omega) (fun _ => zo_cell hL 2 (by omega) (fun _ => zo_cell hL 3 (by omega) (fun _ => ⟨20, 1000, by omega, by omega, zo_lawOf (post := fun r _ => r = 1) rfl⟩))))
end

section
/-! plain rows -/
theorem pt_e31 (p : Nat) : (0 : Int32) * 31 + nI p = nI p := by
  rw [show (0 : Int32) * 31 = 0 from by decide, Int32.zero_add]
theorem pt_m1 : ∀ q, q < 8 → ¬ (-1 : Int32) = nI q := by decide +kernel
theorem pt_lt0 {p : Nat} (h0 : 0 < p) (h : p < 2 ^ 31) : (0 : Int32) < nI p := by
  have := nI_lt h0 h
  rwa [nI_0] at this
/-- key k holds y, all others nothing -/
def pt_M (k : Nat) (y : Int32) (a : Nat → Int32) : Prop := ∀ j, j < 8 → a j = if j = k then y else 0
/-- the log of timeline 0 after two changes of key k, and its end -/
def pt_L (k : Nat) (v w : Int32) (a1 a2 a3 a6 a7 : Nat → Int32) : Prop :=
  (a1 1 = nI k ∧ a1 2 = nI k) ∧ (a2 1 = v ∧ a2 2 = w) ∧ (a3 1 = -1 ∧ a3 2 = -1) ∧ a6 0 = 0 ∧ a7 0 = nI 2
theorem pt_Mu {k : Nat} {y z : Int32} {a : Nat → Int32} (h : pt_M k z a) : pt_M k y (upd a k y) := by
  intro j hj
  by_cases e : j = k
  · rw [e, pk_us, if_pos rfl]
  · rw [pk_un e, if_neg e, h j hj, if_neg e]
section
variable {post : Int32 → Prop} {t nw nb uw cp : Int32} {a1 a2 a3 a4 a5 a6 a7 a8 a9 a10 a11 a12 a13 a14 a15 a16 a17 : Nat → Int32}
theorem pt_bad0 {j : Nat} (hj : j < 8) (h : post 0) : wpX_bad post (t, nw, nb, uw, cp, a1, a2, a3, a4, a5, a6, a7, a8, a9, a10, a11, a12, a13, a14, a15, a16, a17) (nI j) :=
  br_f (nI_pos (by omega)) (br_t (nI_lt (b := 8) hj (by decide)) h)
theorem pt_bad1 {k : Int32} (hk : k < 0 ∨ nI 8 ≤ k) (h : post 1) : wpX_bad post (t, nw, nb, uw, cp, a1, a2, a3, a4, a5, a6, a7, a8, a9, a10, a11, a12, a13, a14, a15, a16, a17) k :=
  br_c (fun _ => h) (fun g => br_f (fun z => hk.elim g (fun e => Int32.not_lt.mpr e z)) h)
theorem pt_np0 {n : Int32} (ht : ¬ t ≤ 0) (h0 : ¬ n < 0) (h1 : n ≤ a7 0) (h : post 0) : wpX_noPoint post (t, nw, nb, uw, cp, a1, a2, a3, a4, a5, a6, a7, a8, a9, a10, a11, a12, a13, a14, a15, a16, a17) 0 n :=
  br_f (by decide) (br_f ht (br_f h0 ⟨pk_in 0 6 (by omega), br_t h1 h⟩))
theorem pt_np1 {n : Int32} (ht : ¬ t ≤ 0) (h1 : n < 0 ∨ ¬ n ≤ a7 0) (h : post 1) : wpX_noPoint post (t, nw, nb, uw, cp, a1, a2, a3, a4, a5, a6, a7, a8, a9, a10, a11, a12, a13, a14, a15, a16, a17) 0 n :=
  br_f (by decide) (br_f ht (br_c (fun _ => h) (fun g => ⟨pk_in 0 6 (by omega), br_f (fun z => h1.elim g (fun e => e z)) h⟩)))
theorem pt_entry {p : Nat} (h6 : a6 0 = 0) (hp : 0 < p) (hb : p < 2 ^ 31) (h : post (nI p)) : wpX_entry post (t, nw, nb, uw, cp, a1, a2, a3, a4, a5, a6, a7, a8, a9, a10, a11, a12, a13, a14, a15, a16, a17) 0 (nI p) := by
  have hl : a6 (0 : Int32).toNatClampNeg < nI p := by
    rw [sb_cl0, h6]
    exact pt_lt0 hp hb
  exact ⟨1, br_f (by decide) ⟨pk_in 0 6 (by omega), br_t hl (sb_at (P := post) (pt_e31 p) h)⟩⟩
/-- one turn of valueThen over a change of key k -/
theorem pt_vs {n p q k : Nat} (h6 : a6 0 = 0) (hp : 0 < p) (hb : p < 31) (hq : q < 8) (hk : k < 8) (h3 : a3 p = -1) (h1 : a1 p = nI k)
    (H1 : k = q → post (a2 p)) (H0 : k ≠ q → wX_valueThen_3 post 0 (nI q) t nw nb uw cp a1 a2 a3 a4 a5 a6 a7 a8 a9 a10 a11 a12 a13 a14 a15 a16 a17 n (nI (p - 1))) :
    wX_valueThen_3 post 0 (nI q) t nw nb uw cp a1 a2 a3 a4 a5 a6 a7 a8 a9 a10 a11 a12 a13 a14 a15 a16 a17 (n + 1) (nI p) := by
  refine br_f (nI_nle hp (by omega)) (pt_entry h6 hp (by omega) ⟨pk_in p 186 (by omega), ?_⟩)
  rw [nI_clamp (show p < 2 ^ 31 by omega)]
  refine br_f (by rw [h3]; exact pt_m1 q hq) ⟨pk_in p 186 (by omega), ?_⟩
  rw [h1]
  exact pk_eq k q (fun e => ⟨pk_in p 186 (by omega), H1 e⟩) (fun e => nm_r (sb_m1 hp) (H0 e))
theorem pt_vt0 {q : Nat} {m : Int32} (hm : m = 0) (h : post 0) : wpX_valueThen post (t, nw, nb, uw, cp, a1, a2, a3, a4, a5, a6, a7, a8, a9, a10, a11, a12, a13, a14, a15, a16, a17) 0 m (nI q) := by
  subst hm
  exact ⟨1, br_t (by decide) h⟩
theorem pt_vt1 {q k : Nat} {v w m : Int32} (hl : pt_L k v w a1 a2 a3 a6 a7) (hk : k < 8) (hq : q < 8) (hm : m = 1) (h : post (if k = q then v else 0)) : wpX_valueThen post (t, nw, nb, uw, cp, a1, a2, a3, a4, a5, a6, a7, a8, a9, a10, a11, a12, a13, a14, a15, a16, a17) 0 m (nI q) := by
  subst hm
  obtain ⟨⟨l1, l2⟩, ⟨l3, l4⟩, ⟨l5, l6⟩, l7, l8⟩ := hl
  refine ⟨2, pt_vs (p := 1) l7 (by omega) (by omega) hq hk l5 l1 (fun e => ?_) (fun e => br_t (by decide) ?_)⟩
  · rw [if_pos e] at h
    rw [l3]
    exact h
  · rw [if_neg e] at h
    exact h
theorem pt_vt2 {q k : Nat} {v w m : Int32} (hl : pt_L k v w a1 a2 a3 a6 a7) (hk : k < 8) (hq : q < 8) (hm : m = 2) (h : post (if k = q then w else 0)) : wpX_valueThen post (t, nw, nb, uw, cp, a1, a2, a3, a4, a5, a6, a7, a8, a9, a10, a11, a12, a13, a14, a15, a16, a17) 0 m (nI q) := by
  subst hm
  obtain ⟨⟨l1, l2⟩, ⟨l3, l4⟩, ⟨l5, l6⟩, l7, l8⟩ := hl
  refine ⟨3, pt_vs (p := 2) l7 (by omega) (by omega) hq hk l6 l2 (fun e => ?_) (fun e => pt_vs (p := 1) l7 (by omega) (by omega) hq hk l5 l1 (fun e' => absurd e' e) (fun _ => br_t (by decide) ?_))⟩
  · rw [if_pos e] at h
    rw [l4]
    exact h
  · rw [if_neg e] at h
    exact h
end
end
section
/-! the methods that answer -/
section
variable {post : Int32 → Prop} {t nw nb uw cp : Int32} {a1 a2 a3 a4 a5 a6 a7 a8 a9 a10 a11 a12 a13 a14 a15 a16 a17 : Nat → Int32}
theorem pt_get {k : Nat} {y : Int32} (hk : k < 8) (hM : pt_M k y a8) (h : post y) : wpX_get post (t, nw, nb, uw, cp, a1, a2, a3, a4, a5, a6, a7, a8, a9, a10, a11, a12, a13, a14, a15, a16, a17) (nI k) := by
  have e : a8 (nI k).toNatClampNeg = y := by rw [nI_clamp (by omega), hM k hk, if_pos rfl]
  unfold wpX_get
  dsimp only
  exact pt_bad0 hk (br_t rfl ⟨pk_in k 8 hk, sb_at (P := post) e h⟩)
theorem pt_getO {k : Int32} (hk : k < 0 ∨ nI 8 ≤ k) (h : post 0) : wpX_get post (t, nw, nb, uw, cp, a1, a2, a3, a4, a5, a6, a7, a8, a9, a10, a11, a12, a13, a14, a15, a16, a17) k := by
  unfold wpX_get
  dsimp only
  exact pt_bad1 hk (br_f (by decide) h)
theorem pt_point {s : Nat} {y : Int32} (hs : s < 6) (hn : nw = nI s) (h7 : a7 s = y) (h : post y) : wpX_point post (t, nw, nb, uw, cp, a1, a2, a3, a4, a5, a6, a7, a8, a9, a10, a11, a12, a13, a14, a15, a16, a17) := by
  subst hn
  exact ⟨pk_in s 6 hs, sb_at (P := post) (show a7 (nI s).toNatClampNeg = y by rw [nI_clamp (by omega), h7]) h⟩
theorem pt_valueAt {k : Nat} {v w : Int32} (ht : ¬ t ≤ 0) (hl : pt_L k v w a1 a2 a3 a6 a7) (hk : k < 8) (h : post v) : wpX_valueAt post (t, nw, nb, uw, cp, a1, a2, a3, a4, a5, a6, a7, a8, a9, a10, a11, a12, a13, a14, a15, a16, a17) 0 1 (nI k) := by
  have h8 : a7 0 = nI 2 := hl.2.2.2.2
  unfold wpX_valueAt
  dsimp only
  refine pt_np0 ht (by decide) (by rw [h8]; decide) (br_t rfl (pt_bad0 hk (br_t rfl (pt_vt1 hl hk hk rfl ?_))))
  rw [if_pos rfl]
  exact h
theorem pt_valueAtO {k : Int32} (ht : ¬ t ≤ 0) (h7 : a7 0 = 0) (h : post 0) : wpX_valueAt post (t, nw, nb, uw, cp, a1, a2, a3, a4, a5, a6, a7, a8, a9, a10, a11, a12, a13, a14, a15, a16, a17) 0 1 k := by
  unfold wpX_valueAt
  dsimp only
  exact pt_np1 ht (Or.inr (by rw [h7]; decide)) (br_f (by decide) h)
theorem pt_lastChange {k : Nat} {v w : Int32} (ht : ¬ t ≤ 0) (hl : pt_L k v w a1 a2 a3 a6 a7) (hk : k < 8) (h : post (if w = v then (if v = 0 then 0 else 1) else 2)) : wpX_lastChange post (t, nw, nb, uw, cp, a1, a2, a3, a4, a5, a6, a7, a8, a9, a10, a11, a12, a13, a14, a15, a16, a17) 0 2 (nI k) := by
  have h8 : a7 0 = nI 2 := hl.2.2.2.2
  unfold wpX_lastChange
  dsimp only
  refine pt_bad0 hk (br_t rfl (pt_np0 ht (by decide) (by rw [h8]; decide) (br_t rfl (pt_vt2 hl hk hk rfl ?_))))
  rw [if_pos rfl]
  refine ⟨3, br_f (by decide) (pt_vt1 hl hk hk (by decide) ?_)⟩
  rw [if_pos rfl]
  refine br_c (fun e => nm_r (show (2 : Int32) + (-1) = 1 by decide) (br_f (by decide) (pt_vt0 (by decide) ?_))) (fun e => ?_)
  · subst e
    rw [if_pos rfl] at h
    refine br_c (fun e => nm_r (show (1 : Int32) + (-1) = 0 by decide) (br_t (by decide) ?_)) (fun e => ?_)
    · rw [if_pos e.symm] at h
      exact h
    · rw [if_neg (fun z => e z.symm)] at h
      exact h
  · rw [if_neg (fun z => e z.symm)] at h
    exact h
theorem pt_lastChangeO {k : Int32} (hk : k < 0 ∨ nI 8 ≤ k) (h : post (-1)) : wpX_lastChange post (t, nw, nb, uw, cp, a1, a2, a3, a4, a5, a6, a7, a8, a9, a10, a11, a12, a13, a14, a15, a16, a17) 0 2 k := by
  unfold wpX_lastChange
  dsimp only
  exact pt_bad1 hk (br_f (by decide) h)
/-- how many keys below i differ -/
def pt_c (k : Nat) (y w : Int32) (i : Nat) : Int32 := if k < i then (if y = w then 0 else 1) else 0
theorem pt_differs {k : Nat} {v w y : Int32} (ht : ¬ t ≤ 0) (hl : pt_L k v w a1 a2 a3 a6 a7) (hk : k < 8) (hM : pt_M k y a8) (h : post (if y = w then 0 else 1)) : wpX_differs post (t, nw, nb, uw, cp, a1, a2, a3, a4, a5, a6, a7, a8, a9, a10, a11, a12, a13, a14, a15, a16, a17) 0 2 := by
  have h8 : a7 0 = nI 2 := hl.2.2.2.2
  unfold wpX_differs
  dsimp only
  refine pt_np0 ht (by decide) (by rw [h8]; decide) (br_t rfl ?_)
  have c0 : pt_c k y w 0 = 0 := by
    unfold pt_c
    rw [if_neg (by omega)]
  have L := pk_loop (σ := Unit) (fun n i _ => wX_differs_17 post 0 2 t nw nb uw cp a1 a2 a3 a4 a5 a6 a7 a8 a9 a10 a11 a12 a13 a14 a15 a16 a17 n (pt_c k y w i) (nI i)) (fun _ _ => True) 8 0 () (by omega) trivial ?_ ?_
  · obtain ⟨n, hn⟩ := L
    have hn' : wX_differs_17 post 0 2 t nw nb uw cp a1 a2 a3 a4 a5 a6 a7 a8 a9 a10 a11 a12 a13 a14 a15 a16 a17 n (pt_c k y w 0) (nI 0) := hn
    rw [c0, nI_0] at hn'
    exact ⟨n, hn'⟩
  · intro n _ _
    refine br_t (by decide) ?_
    show post (pt_c k y w 8)
    unfold pt_c
    rw [if_pos hk]
    exact h
  · intro n i _ hi _ hw
    have hw' : wX_differs_17 post 0 2 t nw nb uw cp a1 a2 a3 a4 a5 a6 a7 a8 a9 a10 a11 a12 a13 a14 a15 a16 a17 n (pt_c k y w (i + 1)) (nI (i + 1)) := hw () trivial
    refine br_f (nI_ge (b := 8) hi (by decide)) (pt_vt2 hl hk hi rfl ⟨pk_in i 8 hi, ?_⟩)
    rw [nI_clamp (show i < 2 ^ 31 by omega), hM i hi]
    by_cases e : k = i
    · rw [if_pos e, if_pos e.symm]
      have ci : pt_c k y w i = 0 := by
        unfold pt_c
        rw [if_neg (by omega)]
      refine br_c (fun g => nm_r (nI_1 i) ?_) (fun g => nm_r (e' := 1) (by rw [ci]; decide) (nm_r (nI_1 i) ?_))
      · have c1 : pt_c k y w (i + 1) = pt_c k y w i := by
          rw [ci]
          unfold pt_c
          rw [if_pos (by omega), if_pos g.symm]
        rw [c1] at hw'
        exact hw'
      · have c1 : pt_c k y w (i + 1) = 1 := by
          unfold pt_c
          rw [if_pos (by omega), if_neg (fun z => g z.symm)]
        rw [c1] at hw'
        exact hw'
    · rw [if_neg e, if_neg (fun z => e z.symm)]
      have c1 : pt_c k y w (i + 1) = pt_c k y w i := by
        unfold pt_c
        by_cases g : k < i
        · rw [if_pos g, if_pos (by omega)]
        · rw [if_neg g, if_neg (by omega)]
      rw [c1] at hw'
      exact br_t rfl (nm_r (nI_1 i) hw')
theorem pt_differsO (ht : ¬ t ≤ 0) (h7 : a7 0 = 0) (h : post (-4)) : wpX_differs post (t, nw, nb, uw, cp, a1, a2, a3, a4, a5, a6, a7, a8, a9, a10, a11, a12, a13, a14, a15, a16, a17) 0 2 := by
  unfold wpX_differs
  dsimp only
  exact pt_np1 ht (Or.inr (by rw [h7]; decide)) (br_f (by decide) h)
theorem pt_lastPoint {y : Int32} (ht : 0 < t) (h7 : a7 0 = y) (h : post y) : wpX_lastPoint post (t, nw, nb, uw, cp, a1, a2, a3, a4, a5, a6, a7, a8, a9, a10, a11, a12, a13, a14, a15, a16, a17) 0 :=
  br_f (by decide) (br_t ht ⟨pk_in 0 6 (by omega), sb_at (P := post) (show a7 (0 : Int32).toNatClampNeg = y by rw [sb_cl0, h7]) h⟩)
/-- the digest of the keys below i -/
def pt_d (k : Nat) (y : Int32) (i : Nat) : Int32 := if k < i then (nI k + 1) * y else 0
theorem pt_digest {k : Nat} {y : Int32} (hk : k < 8) (hM : pt_M k y a8) (h : post ((nI k + 1) * y)) : wpX_digest post (t, nw, nb, uw, cp, a1, a2, a3, a4, a5, a6, a7, a8, a9, a10, a11, a12, a13, a14, a15, a16, a17) := by
  have c0 : pt_d k y 0 = 0 := by
    unfold pt_d
    rw [if_neg (by omega)]
  have L := pk_loop (σ := Unit) (fun n i _ => wX_digest_4 post t nw nb uw cp a1 a2 a3 a4 a5 a6 a7 a8 a9 a10 a11 a12 a13 a14 a15 a16 a17 n (pt_d k y i) (nI i)) (fun _ _ => True) 8 0 () (by omega) trivial ?_ ?_
  · obtain ⟨n, hn⟩ := L
    have hn' : wX_digest_4 post t nw nb uw cp a1 a2 a3 a4 a5 a6 a7 a8 a9 a10 a11 a12 a13 a14 a15 a16 a17 n (pt_d k y 0) (nI 0) := hn
    rw [c0, nI_0] at hn'
    exact ⟨n, hn'⟩
  · intro n _ _
    refine br_t (by decide) ?_
    show post (pt_d k y 8)
    unfold pt_d
    rw [if_pos hk]
    exact h
  · intro n i _ hi _ hw
    have hw' : wX_digest_4 post t nw nb uw cp a1 a2 a3 a4 a5 a6 a7 a8 a9 a10 a11 a12 a13 a14 a15 a16 a17 n (pt_d k y (i + 1)) (nI (i + 1)) := hw () trivial
    refine br_f (nI_ge (b := 8) hi (by decide)) ⟨pk_in i 8 hi, nm_r (e' := pt_d k y (i + 1)) ?_ (nm_r (nI_1 i) hw')⟩
    rw [nI_clamp (show i < 2 ^ 31 by omega), hM i hi]
    unfold pt_d
    by_cases e : k = i
    · subst e
      rw [if_neg (by omega), if_pos rfl, if_pos (by omega), Int32.zero_add]
    · rw [if_neg (c := i = k) (fun z => e z.symm), Int32.mul_zero, Int32.add_zero]
      by_cases g : k < i
      · rw [if_pos g, if_pos (by omega)]
      · rw [if_neg g, if_neg (by omega)]
end
end
section
/-! the methods that change: set, redo, restore -/
section
variable {t nw nb uw cp : Int32} {a1 a2 a3 a4 a5 a6 a7 a8 a9 a10 a11 a12 a13 a14 a15 a16 a17 : Nat → Int32}
theorem pt_set {post : Int32 → St2 → Prop} {k e : Nat} {v : Int32} (hk : k < 8) (h7 : a7 0 = nI e) (he : e < 30)
    (h : post (nI (e + 1)) (t, 0, nb, uw, cp, upd a1 (e + 1) (nI k), upd a2 (e + 1) v, upd a3 (e + 1) (-1), upd a4 (e + 1) 0, a5, a6, upd a7 0 (nI (e + 1)), upd a8 k v, upd a9 k (nI (e + 1)), a10, a11, a12, a13, a14, a15, a16, a17)) :
    wpX_set post (t, 0, nb, uw, cp, a1, a2, a3, a4, a5, a6, a7, a8, a9, a10, a11, a12, a13, a14, a15, a16, a17) (nI k) v := by
  have e7 : a7 (0 : Int32).toNatClampNeg = nI e := by rw [sb_cl0, h7]
  have c1 : (nI (e + 1)).toNatClampNeg = e + 1 := nI_clamp (by omega)
  unfold wpX_set
  dsimp only
  refine pt_bad0 hk (br_t rfl ⟨pk_in 0 6 (by omega), br_f ?_ ⟨pk_in 0 6 (by omega), pk_in 0 6 (by omega), ?_⟩⟩)
  · rw [e7]
    exact fun z => absurd ((nI_eq (by omega) (by omega)).mp (show nI e = nI 30 from z)) (by omega)
  · refine nm_r (e' := upd a7 0 (nI (e + 1))) (by rw [e7, nI_1]; rfl) ⟨pk_in 0 6 (by omega), nm_r (e' := nI (e + 1)) (by rw [sb_cl0, pk_us]) (nm_r (pt_e31 (e + 1)) ⟨pk_in (e + 1) 186 (by omega), ?_⟩)⟩
    rw [c1]
    refine nm_e ⟨pk_in (e + 1) 186 (by omega), nm_e ⟨pk_in (e + 1) 186 (by omega), nm_e ⟨pk_in (e + 1) 186 (by omega), nm_e ⟨pk_in k 8 hk, ?_⟩⟩⟩⟩
    rw [nI_clamp (show k < 2 ^ 31 by omega)]
    exact nm_e ⟨pk_in k 8 hk, nm_e (br_t (by decide) h)⟩
theorem pt_setO {post : Int32 → St2 → Prop} {k v : Int32} (hk : k < 0 ∨ nI 8 ≤ k) (h : post (-1) (t, nw, nb, uw, cp, a1, a2, a3, a4, a5, a6, a7, a8, a9, a10, a11, a12, a13, a14, a15, a16, a17)) : wpX_set post (t, nw, nb, uw, cp, a1, a2, a3, a4, a5, a6, a7, a8, a9, a10, a11, a12, a13, a14, a15, a16, a17) k v := by
  unfold wpX_set
  dsimp only
  exact pt_bad1 hk (br_f (by decide) h)
/-- one turn of redo over a change of key k that the memory doesn't have yet -/
theorem pt_rd {post : St2 → Prop} {n p m k : Nat} (h6 : a6 0 = 0) (hp : 0 < p) (hm : p ≤ m) (hb : m < 31) (hk : k < 8) (h1 : a1 p = nI k) (h3 : a3 p = -1) (h9 : ¬ nI p ≤ a9 k)
    (H : wX_redo_2 post 0 (nI m) n (nI (p + 1)) t nw nb uw cp a1 a2 a3 a4 a5 a6 a7 (upd a8 k (a2 p)) (upd a9 k (nI p)) a10 a11 a12 a13 a14 a15 a16 a17) :
    wX_redo_2 post 0 (nI m) (n + 1) (nI p) t nw nb uw cp a1 a2 a3 a4 a5 a6 a7 a8 a9 a10 a11 a12 a13 a14 a15 a16 a17 := by
  refine br_f (nI_nlt hm (by omega)) (pt_entry h6 hp (by omega) ⟨pk_in p 186 (by omega), ?_⟩)
  rw [nI_clamp (show p < 2 ^ 31 by omega), h1, nI_clamp (show k < 2 ^ 31 by omega)]
  refine ⟨pk_in k 8 hk, br_f h9 ⟨pk_in p 186 (by omega), pk_in p 186 (by omega), pk_in k 8 hk, ?_⟩⟩
  rw [nI_clamp (show k < 2 ^ 31 by omega)]
  refine nm_e ⟨pk_in k 8 hk, nm_e ⟨pk_in p 186 (by omega), pk_in p 186 (by omega), br_f ?_ ⟨pk_in p 186 (by omega), br_t ?_ (nm_r (nI_1 p) H)⟩⟩⟩
  · rw [h1, h3]
    exact pt_m1 k hk
  · rw [nI_clamp (show p < 2 ^ 31 by omega), h3]
    decide
theorem pt_rd0 {post : St2 → Prop} {n m : Nat} (hb : m < 31) (H : post (t, nw, nb, uw, cp, a1, a2, a3, a4, a5, a6, a7, a8, a9, a10, a11, a12, a13, a14, a15, a16, a17)) : wX_redo_2 post 0 (nI m) (n + 1) (nI (m + 1)) t nw nb uw cp a1 a2 a3 a4 a5 a6 a7 a8 a9 a10 a11 a12 a13 a14 a15 a16 a17 :=
  br_t (nI_lt (by omega) (by omega)) H
/-- what redo does from an empty memory: key k holds y then -/
def pt_R (k m : Nat) (y : Int32) (a1 a2 a3 a4 a5 a6 a7 : Nat → Int32) : Prop :=
  ∀ (post : St2 → Prop) (t nw nb uw cp : Int32) (a8 a9 a10 a11 a12 a13 a14 a15 a16 a17 : Nat → Int32), pt_M k 0 a8 → pt_M k 0 a9 →
    (∀ c8 c9, pt_M k y c8 → post (t, nw, nb, uw, cp, a1, a2, a3, a4, a5, a6, a7, c8, c9, a10, a11, a12, a13, a14, a15, a16, a17)) → wpX_redo post (t, nw, nb, uw, cp, a1, a2, a3, a4, a5, a6, a7, a8, a9, a10, a11, a12, a13, a14, a15, a16, a17) 0 (nI m)
theorem pt_R0 {k : Nat} : pt_R k 0 0 a1 a2 a3 a4 a5 a6 a7 := by
  intro post t nw nb uw cp a8 a9 a10 a11 a12 a13 a14 a15 a16 a17 h8 h9 H
  exact ⟨1, pt_rd0 (by omega) (H a8 a9 h8)⟩
theorem pt_R1 {k : Nat} {v w : Int32} (hl : pt_L k v w a1 a2 a3 a6 a7) (hk : k < 8) : pt_R k 1 v a1 a2 a3 a4 a5 a6 a7 := by
  intro post t nw nb uw cp a8 a9 a10 a11 a12 a13 a14 a15 a16 a17 h8 h9 H
  obtain ⟨⟨l1, l2⟩, ⟨l3, l4⟩, ⟨l5, l6⟩, l7, l8⟩ := hl
  have z9 : a9 k = 0 := by rw [h9 k hk, if_pos rfl]
  refine ⟨2, pt_rd (p := 1) l7 (by omega) (by omega) (by omega) hk l1 l5 (by rw [z9]; decide) (pt_rd0 (by omega) (H _ _ ?_))⟩
  rw [l3]
  exact pt_Mu h8
theorem pt_R2 {k : Nat} {v w : Int32} (hl : pt_L k v w a1 a2 a3 a6 a7) (hk : k < 8) : pt_R k 2 w a1 a2 a3 a4 a5 a6 a7 := by
  intro post t nw nb uw cp a8 a9 a10 a11 a12 a13 a14 a15 a16 a17 h8 h9 H
  obtain ⟨⟨l1, l2⟩, ⟨l3, l4⟩, ⟨l5, l6⟩, l7, l8⟩ := hl
  have z9 : a9 k = 0 := by rw [h9 k hk, if_pos rfl]
  refine ⟨3, pt_rd (p := 1) l7 (by omega) (by omega) (by omega) hk l1 l5 (by rw [z9]; decide) (pt_rd (p := 2) l7 (by omega) (by omega) (by omega) hk l2 l6 (by rw [pk_us]; decide) (pt_rd0 (by omega) (H _ _ ?_)))⟩
  rw [l4]
  exact pt_Mu (pt_Mu (y := a2 1) h8)
theorem pt_usable {post : Int32 → Prop} {n : Int32} (h12 : ∀ j, j < 4 → a12 j = 0) (h : post (-1)) : wpX_usable post (t, nw, nb, uw, cp, a1, a2, a3, a4, a5, a6, a7, a8, a9, a10, a11, a12, a13, a14, a15, a16, a17) 0 n := by
  have L := pk_loop (σ := Unit) (fun f i _ => wX_usable_5 post 0 n t nw nb uw cp a1 a2 a3 a4 a5 a6 a7 a8 a9 a10 a11 a12 a13 a14 a15 a16 a17 f (-1) (nI i)) (fun _ _ => True) 4 0 () (by omega) trivial (fun f _ _ => br_t (by decide) h)
    (fun f i _ hi _ hw => br_f (nI_ge (b := 4) hi (by decide)) ⟨pk_in i 4 hi, br_t (by rw [nI_clamp (by omega)]; exact h12 i hi) (nm_r (nI_1 i) (hw () trivial))⟩)
  obtain ⟨f, hf⟩ := L
  have hf' : wX_usable_5 post 0 n t nw nb uw cp a1 a2 a3 a4 a5 a6 a7 a8 a9 a10 a11 a12 a13 a14 a15 a16 a17 f (-1) (nI 0) := hf
  rw [nI_0] at hf'
  exact ⟨f, hf'⟩
/-- a store of 0 at place i -/
theorem pt_z {s : Nat → Int32} {i : Nat} (h : ∀ j, j < i → s j = 0) : ∀ j, j < i + 1 → upd s i 0 j = 0 := by
  intro j hj
  by_cases e : j = i
  · rw [e, pk_us]
  · rw [pk_un e]
    exact h j (by omega)
theorem pt_z8 {s : Nat → Int32} (k : Nat) (h : ∀ j, j < 8 → s j = 0) : pt_M k 0 s := by
  intro j hj
  rw [h j hj]
  by_cases e : j = k
  · rw [if_pos e]
  · rw [if_neg e]
/-- the disk is written: its content doesn't matter -/
theorem pt_110 {post : Int32 → St2 → Prop} {m : Nat}
    (H : ∀ c10 c11, post 1 (2, 1, nb, 0, cp, a1, a2, a3, a4, upd a5 1 0, upd a6 1 (nI m), upd a7 1 (nI m), a8, a9, c10, c11, a12, a13, a14, a15, a16, a17)) :
    ∃ f, wX_restore_110 post 0 (nI m) 1 nw nb uw cp f 0 a1 a2 a3 a4 a5 a6 a7 a8 a9 a10 a11 a12 a13 a14 a15 a16 a17 := by
  have L := pk_loop (σ := (Nat → Int32) × (Nat → Int32)) (fun f i s => wX_restore_110 post 0 (nI m) 1 nw nb uw cp f (nI i) a1 a2 a3 a4 a5 a6 a7 a8 a9 s.1 s.2 a12 a13 a14 a15 a16 a17) (fun _ _ => True) 8 0 (a10, a11) (by omega) trivial ?_ ?_
  · obtain ⟨f, hf⟩ := L
    have hf' : wX_restore_110 post 0 (nI m) 1 nw nb uw cp f (nI 0) a1 a2 a3 a4 a5 a6 a7 a8 a9 a10 a11 a12 a13 a14 a15 a16 a17 := hf
    rw [nI_0] at hf'
    exact ⟨f, hf'⟩
  · intro f s _
    exact br_t (by decide) ⟨pk_in 1 6 (by omega), nm_e ⟨pk_in 1 6 (by omega), nm_e ⟨pk_in 1 6 (by omega), nm_e (nm_r (e' := 2) (by decide) (H s.1 s.2))⟩⟩⟩
  · intro f i s hi _ hw
    exact br_f (nI_ge (b := 8) hi (by decide)) ⟨pk_in i 8 hi, pk_in i 8 hi, nm_e ⟨pk_in i 8 hi, pk_in i 8 hi, nm_e (nm_r (nI_1 i) (hw (_, _) trivial))⟩⟩
theorem pt_34 {post : Int32 → St2 → Prop} {k m : Nat} {y : Int32} (hr : pt_R k m y a1 a2 a3 a4 a5 a6 a7)
    (H : ∀ c8 c9 c10 c11, pt_M k y c8 → post 1 (2, 1, nb, 0, cp, a1, a2, a3, a4, upd a5 1 0, upd a6 1 (nI m), upd a7 1 (nI m), c8, c9, c10, c11, a12, a13, a14, a15, a16, a17)) :
    ∃ f, wX_restore_34 post 0 (nI m) (-1) 1 nw nb uw cp f 0 a1 a2 a3 a4 a5 a6 a7 a8 a9 a10 a11 a12 a13 a14 a15 a16 a17 := by
  have L := pk_loop (σ := (Nat → Int32) × (Nat → Int32)) (fun f i s => wX_restore_34 post 0 (nI m) (-1) 1 nw nb uw cp f (nI i) a1 a2 a3 a4 a5 a6 a7 s.1 s.2 a10 a11 a12 a13 a14 a15 a16 a17) (fun i s => (∀ j, j < i → s.1 j = 0) ∧ (∀ j, j < i → s.2 j = 0)) 8 0 (a8, a9) (by omega) ⟨fun j hj => absurd hj (by omega), fun j hj => absurd hj (by omega)⟩ ?_ ?_
  · obtain ⟨f, hf⟩ := L
    have hf' : wX_restore_34 post 0 (nI m) (-1) 1 nw nb uw cp f (nI 0) a1 a2 a3 a4 a5 a6 a7 a8 a9 a10 a11 a12 a13 a14 a15 a16 a17 := hf
    rw [nI_0] at hf'
    exact ⟨f, hf'⟩
  · intro f s hs
    exact br_t (by decide) (hr _ _ _ _ _ _ _ _ _ _ _ _ _ _ _ _ (pt_z8 k hs.1) (pt_z8 k hs.2) (fun c8 c9 hc => pt_110 (fun c10 c11 => H c8 c9 c10 c11 hc)))
  · intro f i s hi hs hw
    refine br_f (nI_ge (b := 8) hi (by decide)) (br_f (by decide) ⟨pk_in i 8 hi, ?_⟩)
    rw [nI_clamp (show i < 2 ^ 31 by omega)]
    exact nm_e (br_f (by decide) ⟨pk_in i 8 hi, nm_e (nm_r (nI_1 i) (hw (upd s.1 i 0, upd s.2 i 0) ⟨pt_z hs.1, pt_z hs.2⟩))⟩)
theorem pt_restore {post : Int32 → St2 → Prop} {k m e : Nat} {y : Int32} (h7 : a7 0 = nI e) (hm : m ≤ e) (he : e < 31) (h12 : ∀ j, j < 4 → a12 j = 0) (hr : pt_R k m y a1 a2 a3 a4 a5 a6 a7)
    (H : ∀ c8 c9 c10 c11, pt_M k y c8 → post 1 (2, 1, nb, 0, cp, a1, a2, a3, a4, upd a5 1 0, upd a6 1 (nI m), upd a7 1 (nI m), c8, c9, c10, c11, a12, a13, a14, a15, a16, a17)) :
    wpX_restore post (1, nw, nb, uw, cp, a1, a2, a3, a4, a5, a6, a7, a8, a9, a10, a11, a12, a13, a14, a15, a16, a17) 0 (nI m) := by
  unfold wpX_restore
  dsimp only
  exact pt_np0 (by decide) (nI_pos (by omega)) (by rw [h7]; exact nI_le hm (by omega)) (br_t rfl (br_f (by decide) (pt_usable h12 (pt_34 hr H))))
theorem pt_restoreO {post : Int32 → St2 → Prop} {n : Int32} (h : n < 0 ∨ ¬ n ≤ a7 0) (H : post (-4) (1, nw, nb, uw, cp, a1, a2, a3, a4, a5, a6, a7, a8, a9, a10, a11, a12, a13, a14, a15, a16, a17)) : wpX_restore post (1, nw, nb, uw, cp, a1, a2, a3, a4, a5, a6, a7, a8, a9, a10, a11, a12, a13, a14, a15, a16, a17) 0 n := by
  unfold wpX_restore
  dsimp only
  exact pt_np1 (by decide) h (br_f (by decide) H)
end
end
section
/-! the law -/
section
variable {post : Int32 → St0 → Prop} {mc ms kc ks : Nat}
/-- the law's checks, the key in range -/
theorem pt_172 {x0 v w n rb y pn b : Int32} (hb : (b = 0 ∧ rb = -4 ∧ pn = 2) ∨ (b = 1 ∧ rb = 1 ∧ pn = n)) (h : post 1 ()) :
    wL_lawOf_172 post mc ms x0 v w n rb y pn v (if w = v then (if v = 0 then 0 else 1) else 2) (if y = w then 0 else 1) 2 ((x0 + 1) * y) 1 2 b y kc ks := by
  have h310 : wL_lawOf_310 post mc ms ((x0 + 1) * y) ((x0 + 1) * y) kc ks := br_t rfl h
  have h283 : ∀ z, wL_lawOf_283 post mc ms x0 2 ((x0 + 1) * y) 1 2 y z z kc ks := fun z => br_t rfl (br_t rfl (br_f (by decide) h310))
  have h257 : ∀ z, wL_lawOf_257 post mc ms x0 w (if y = w then 0 else 1) 2 ((x0 + 1) * y) 1 2 y z z kc ks := by
    intro z
    refine br_t rfl (br_f (by decide) (br_c (fun e => ?_) (fun e => ?_)))
    · rw [if_pos e]
      exact h283 0
    · rw [if_neg e]
      exact h283 1
  have h225 : wL_lawOf_225 post mc ms x0 v w (if w = v then (if v = 0 then 0 else 1) else 2) (if y = w then 0 else 1) 2 ((x0 + 1) * y) 1 2 y v v kc ks := by
    refine br_t rfl (br_f (by decide) (br_c (fun e => br_c (fun e2 => ?_) (fun e2 => ?_)) (fun e => ?_)))
    · rw [if_pos e, if_pos e2]
      exact h257 0
    · rw [if_pos e, if_neg e2]
      exact h257 1
    · rw [if_neg e]
      exact h257 2
  have h210 : ∀ z, wL_lawOf_210 post mc ms x0 v w v (if w = v then (if v = 0 then 0 else 1) else 2) (if y = w then 0 else 1) 2 ((x0 + 1) * y) 1 2 y z z kc ks := fun z => br_t rfl (br_f (by decide) h225)
  rcases hb with ⟨rfl, rfl, rfl⟩ | ⟨rfl, rfl, rfl⟩
  · exact br_t rfl (br_t rfl (br_t rfl (br_t rfl (h210 2))))
  · exact br_f (by decide) (br_t rfl (br_t rfl (br_f (by decide) (h210 pn))))
/-- the law's checks, the key out of range -/
theorem pt_172O {x0 v w n rb pn b : Int32} (hb : (b = 0 ∧ rb = -4 ∧ pn = 0) ∨ (b = 1 ∧ rb = 1 ∧ pn = n)) (h : post 1 ()) :
    wL_lawOf_172 post mc ms x0 v w n rb 0 pn 0 (-1) (-4) 0 0 0 0 b 0 kc ks := by
  have h210 : ∀ z, wL_lawOf_210 post mc ms x0 v w 0 (-1) (-4) 0 0 0 0 0 z z kc ks := fun z => br_t rfl (br_t rfl (br_t rfl (br_t rfl (br_t rfl (br_t rfl (br_t rfl (br_t rfl (br_t rfl (br_t rfl h)))))))))
  rcases hb with ⟨rfl, rfl, rfl⟩ | ⟨rfl, rfl, rfl⟩
  · exact br_t rfl (br_t rfl (br_t rfl (br_t rfl (h210 0))))
  · exact br_f (by decide) (br_t rfl (br_t rfl (br_f (by decide) (h210 pn))))
end
section
variable {mc ms kc ks : Nat} {post : Int32 → St0 → Prop}
/-- behind the calls, the key in range: the point is one to go back to -/
theorem pt_inB {x0 v w y : Int32} {m : Nat} (hm : m ≤ 2) (hy : y = if m = 2 then w else if m = 1 then v else 0) (h : post 1 ()) :
    wL_lawOf_108 post mc ms x0 v w (nI m) 1 y (nI m) v (if w = v then (if v = 0 then 0 else 1) else 2) (if y = w then 0 else 1) 2 ((x0 + 1) * y) 1 kc ks := by
  refine br_f (by decide) (br_f (nI_pos (by omega)) (br_f (nI_nlt (a := 2) (b := m) hm (by decide)) (br_f (by decide) (br_f (by decide) (pk_eq m 2 (fun e => ?_) (fun e => pk_eq m 1 (fun e1 => ?_) (fun e1 => ?_)))))))
  · rw [if_pos e] at hy
    subst hy
    exact pt_172 (Or.inr ⟨rfl, rfl, rfl⟩) h
  · rw [if_neg e, if_pos e1] at hy
    subst hy
    exact pt_172 (Or.inr ⟨rfl, rfl, rfl⟩) h
  · rw [if_neg e, if_neg e1] at hy
    subst hy
    exact pt_172 (Or.inr ⟨rfl, rfl, rfl⟩) h
/-- behind the calls, the key in range: no such point -/
theorem pt_inN {x0 v w n : Int32} (hn : n < 0 ∨ 2 < n) (h : post 1 ()) :
    wL_lawOf_108 post mc ms x0 v w n (-4) w 2 v (if w = v then (if v = 0 then 0 else 1) else 2) (if w = w then 0 else 1) 2 ((x0 + 1) * w) 1 kc ks := by
  have T : wL_lawOf_136 post mc ms x0 v w n (-4) w 2 v (if w = v then (if v = 0 then 0 else 1) else 2) (if w = w then 0 else 1) 2 ((x0 + 1) * w) 1 2 kc ks := br_f (by decide) (br_t rfl (pt_172 (Or.inl ⟨rfl, rfl, rfl⟩) h))
  exact br_f (by decide) (br_c (fun _ => T) (fun g => br_t (hn.resolve_left g) T))
/-- behind the calls, the key out of range: point 0 -/
theorem pt_outB {x0 v w : Int32} (h : post 1 ()) : wL_lawOf_107 post mc ms x0 v w 0 1 0 0 0 (-1) (-4) 0 0 kc ks :=
  br_t rfl (br_f (by decide) (br_f (by decide) (br_t rfl (pt_172O (Or.inr ⟨rfl, rfl, rfl⟩) h))))
theorem pt_outN {x0 v w n : Int32} (hn : n < 0 ∨ 0 < n) (h : post 1 ()) : wL_lawOf_107 post mc ms x0 v w n (-4) 0 0 0 (-1) (-4) 0 0 kc ks := by
  have T : wL_lawOf_136 post mc ms x0 v w n (-4) 0 0 0 (-1) (-4) 0 0 0 0 kc ks := br_t rfl (pt_172O (Or.inl ⟨rfl, rfl, rfl⟩) h)
  exact br_t rfl (br_c (fun _ => T) (fun g => br_t (hn.resolve_left g) T))
end
/-- the empty array -/
def pt_0 : Nat → Int32 := fun _ => 0
theorem pt_init {post : St2 → Prop} (h : post (1, 0, 0, 0, 0, pt_0, pt_0, pt_0, pt_0, upd pt_0 0 (-1), pt_0, pt_0, pt_0, pt_0, pt_0, pt_0, pt_0, pt_0, pt_0, pt_0, pt_0, pt_0)) : wpX_init post 17 874 (0, 0, 0, 0, 0) :=
  ⟨by decide, by decide, by decide, by decide, by decide, by decide, by decide, by decide, by decide, by decide, by decide, by decide, by decide, by decide, by decide, by decide, by decide, by decide, by decide, by decide, by decide, by decide, by decide, by decide, by decide, by decide, by decide, by decide, by decide, by decide, by decide, by decide, by decide, by decide, nm_e h⟩
theorem pt_lawIn {post : Int32 → St0 → Prop} {k : Nat} {v w n : Int32} (hk : k < 8) (h : post 1 ()) : wpL_lawOf post 18 896 () (nI k) v w n := by
  have h7k : ¬ (7 : Int32) < nI k := nI_nlt (b := k) (a := 7) (by omega) (by decide)
  have h0k : ¬ nI k < 0 := nI_pos (by omega)
  have hl : pt_L k v w (upd (upd pt_0 1 (nI k)) 2 (nI k)) (upd (upd pt_0 1 v) 2 w) (upd (upd pt_0 1 (-1)) 2 (-1)) pt_0 (upd (upd pt_0 0 (nI 1)) 0 (nI 2)) :=
    ⟨⟨rfl, rfl⟩, ⟨rfl, rfl⟩, ⟨rfl, rfl⟩, rfl, rfl⟩
  have hM0 : pt_M k w (upd (upd pt_0 k v) k w) := pt_Mu (pt_Mu (y := v) (pt_z8 k (fun _ _ => rfl)))
  refine ⟨by decide, by decide, 17, 874, by decide, by decide, pt_init (pt_set (e := 0) hk rfl (by omega) (pt_set (e := 1) hk rfl (by omega) ?_))⟩
  have hn : (n < 0 ∨ 2 < n) ∨ ∃ m, m ≤ 2 ∧ n = nI m := by
    rcases pk_ix n (n := 3) (by decide) with z | z | ⟨m, hm, e⟩
    · exact Or.inl (Or.inl z)
    · exact Or.inl (Or.inr (Int32.lt_of_lt_of_le (by decide) z))
    · exact Or.inr ⟨m, by omega, e⟩
  rcases hn with hn | ⟨m, hm, rfl⟩
  · exact pt_restoreO (hn.imp id (fun z => Int32.not_le.mpr z))
      (pt_get hk hM0 (pt_point (s := 0) (by omega) rfl rfl (pt_valueAt (by decide) hl hk (pt_lastChange (by decide) hl hk (pt_differs (by decide) hl hk hM0 (pt_lastPoint (by decide) rfl (pt_digest hk hM0 (br_f h0k (br_f h7k (pt_inN hn h))))))))))
  · have hl' : pt_L k v w (upd (upd pt_0 1 (nI k)) 2 (nI k)) (upd (upd pt_0 1 v) 2 w) (upd (upd pt_0 1 (-1)) 2 (-1)) (upd pt_0 1 (nI m)) (upd (upd (upd pt_0 0 (nI 1)) 0 (nI 2)) 1 (nI m)) :=
      ⟨⟨rfl, rfl⟩, ⟨rfl, rfl⟩, ⟨rfl, rfl⟩, rfl, rfl⟩
    have hr : ∃ y, (y = if m = 2 then w else if m = 1 then v else 0) ∧ ∀ a4 a5, pt_R k m y (upd (upd pt_0 1 (nI k)) 2 (nI k)) (upd (upd pt_0 1 v) 2 w) (upd (upd pt_0 1 (-1)) 2 (-1)) a4 a5 pt_0 (upd (upd pt_0 0 (nI 1)) 0 (nI 2)) := by
      rcases (show m = 0 ∨ m = 1 ∨ m = 2 by omega) with e | e | e
      · subst e
        exact ⟨0, rfl, fun _ _ => pt_R0⟩
      · subst e
        exact ⟨v, rfl, fun _ _ => pt_R1 hl hk⟩
      · subst e
        exact ⟨w, rfl, fun _ _ => pt_R2 hl hk⟩
    obtain ⟨y, hy, hr⟩ := hr
    exact pt_restore (e := 2) rfl hm (by omega) (fun _ _ => rfl) (hr _ _) (fun c8 c9 c10 c11 hM =>
      pt_get hk hM (pt_point (s := 1) (by omega) rfl rfl (pt_valueAt (by decide) hl' hk (pt_lastChange (by decide) hl' hk (pt_differs (by decide) hl' hk hM (pt_lastPoint (by decide) rfl (pt_digest hk hM (br_f h0k (br_f h7k (pt_inB hm hy h)))))))))) 
theorem pt_lawOut {post : Int32 → St0 → Prop} {k v w n : Int32} (hk : k < 0 ∨ nI 8 ≤ k) (h : post 1 ()) : wpL_lawOf post 18 896 () k v w n := by
  have h7k : ¬ k < 0 → 7 < k := fun g => Int32.lt_of_lt_of_le (by decide) (hk.resolve_left g)
  have z0 : pt_M 0 0 pt_0 := pt_z8 0 (fun _ _ => rfl)
  have zd : (nI 0 + 1) * 0 = (0 : Int32) := by decide
  refine ⟨by decide, by decide, 17, 874, by decide, by decide, pt_init (pt_setO hk (pt_setO hk ?_))⟩
  have hn : (n < 0 ∨ 0 < n) ∨ n = nI 0 := by
    rcases pk_ix n (n := 1) (by decide) with z | z | ⟨m, hm, e⟩
    · exact Or.inl (Or.inl z)
    · exact Or.inl (Or.inr (Int32.lt_of_lt_of_le (by decide) z))
    · rw [show m = 0 by omega] at e
      exact Or.inr e
  rcases hn with hn | rfl
  · refine pt_restoreO (hn.imp id (fun z => Int32.not_le.mpr z)) (pt_getO hk (pt_point (s := 0) (by omega) rfl rfl (pt_valueAtO (by decide) rfl (pt_lastChangeO hk (pt_differsO (by decide) rfl (pt_lastPoint (by decide) rfl (pt_digest (k := 0) (by omega) z0 ?_)))))))
    rw [zd]
    exact br_c (fun _ => pt_outN hn h) (fun g => br_t (h7k g) (pt_outN hn h))
  · refine pt_restore (k := 0) (e := 0) rfl (by omega) (by omega) (fun _ _ => rfl) pt_R0 (fun c8 c9 c10 c11 hM => pt_getO hk (pt_point (s := 1) (by omega) rfl rfl (pt_valueAtO (by decide) rfl (pt_lastChangeO hk (pt_differsO (by decide) rfl (pt_lastPoint (by decide) rfl (pt_digest (k := 0) (by omega) hM ?_)))))))
    rw [zd]
    exact br_c (fun _ => pt_outB h) (fun g => br_t (h7k g) (pt_outB h))
theorem pt_law {post : Int32 → St0 → Prop} (k v w n : Int32) (h : post 1 ()) : wpL_lawOf post 18 896 () k v w n := by
  rcases pk_ix k (n := 8) (by decide) with z | z | ⟨j, hj, rfl⟩
  · exact pt_lawOut (Or.inl z) h
  · exact pt_lawOut (Or.inr z) h
  · exact pt_lawIn hj h
theorem pt_cell {post : Int32 → Prop} {L : Nat} {xs : Nat → Int32} {x : Int32} (i : Nat) (hx : x = nI i) (hi : i < 4) (hL : L ≤ 4) (h : ∀ r, post r) : wpL_cellAt post L xs () x := by
  subst hx
  refine br_c (fun _ => h _) (fun g => ⟨vp_in_nI ?_ (by omega), h _⟩)
  rcases Nat.lt_or_ge i L with z | z
  · exact z
  · exact absurd (nI_le z (by omega)) g
theorem i_vc (xs : Nat → Int32) (L : Nat) (hL : L ≤ 4) : wpL_law (fun r => r = 1) L xs :=
  pt_cell 0 rfl (by omega) hL (fun r1 => pt_cell 1 rfl (by omega) hL (fun r2 => pt_cell 2 rfl (by omega) hL (fun r3 => pt_cell 3 rfl (by omega) hL (fun r4 => ⟨18, 896, by decide, by decide, pt_law r1 r2 r3 r4 rfl⟩))))
end

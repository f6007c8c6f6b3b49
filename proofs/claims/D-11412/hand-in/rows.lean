section
/-! ===== the picture: five layers of 85 places; in each layer the root is a directory, the path p holds (h layer), all else is empty ===== -/
theorem ov_ix (l q : Nat) : (85 : Int32) * nI l + nI q = nI (85 * l + q) := by
  rw [show (85 : Int32) = nI 85 from rfl, pk_mul, nI_add]
theorem ov_in {l q : Nat} (hl : l < 5) (hq : q < 85) : vp_in ((85 : Int32) * nI l + nI q) 425 := by
  rw [ov_ix]
  exact vp_in_nI (by omega) (by decide)
theorem ov_cl {l q : Nat} (hl : l < 5) (hq : q < 85) : ((85 : Int32) * nI l + nI q).toNatClampNeg = 85 * l + q := by
  rw [ov_ix]
  exact nI_clamp (by omega)
theorem ov_par {q : Nat} (h1 : 1 ≤ q) (h : q < 85) : (nI q - 1) / 4 = nI ((q - 1) / 4) := by
  rw [show (1 : Int32) = nI 1 from rfl, show (4 : Int32) = nI 4 from rfl, pk_sub h1, pk_div (by omega) (by decide) (by decide)]
theorem ov_par0 {q : Nat} (h1 : 1 ≤ q) (h : q ≤ 4) : (nI q - 1) / 4 = nI 0 := by
  rw [ov_par h1 (by omega), show (q - 1) / 4 = 0 by omega]
theorem ov_m1lt : ∀ f, f < 6 → nI 0 + (-1) < nI f := by decide
theorem ov_54 : nI 5 + (-1) = (4 : Int32) := by decide
/-- what a layer's places hold -/
def ov_A (p : Nat) (h : Nat → Nat) (a : Nat → Int32) : Prop := ∀ l q, l < 5 → q < 85 → a (85 * l + q) = if q = 0 then 2 else if q = p then nI (h l) else 0
/-- the content of the layers in which p is a file -/
def ov_C (p : Nat) (h : Nat → Nat) (v a : Nat → Int32) : Prop := ∀ l, l < 5 → h l = 1 → a (85 * l + p) = v l
/-- the topmost layer that holds something holds k, with content w; k = 0: no layer holds anything -/
def ov_S (h : Nat → Nat) (v : Nat → Int32) (k : Nat) (w : Int32) : Prop := (k = 0 ∧ ∀ l, l < 5 → h l = 0) ∨ (k ≠ 0 ∧ ∃ t, t < 5 ∧ h t = k ∧ v t = w ∧ ∀ l, t < l → l < 5 → h l = 0)
def ov_P (p k : Nat) (w : Int32) (a1 a2 : Nat → Int32) : Prop := 1 ≤ p ∧ p ≤ 4 ∧ k ≤ 4 ∧ ∃ h v, ov_A p h a1 ∧ ov_C p h v a2 ∧ ov_S h v k w
def ov_due (k : Nat) : Nat := if k = 1 then 1 else if k = 2 ∨ k = 3 then 2 else 0
theorem ov_due1 : ∀ k, k < 5 → k ≠ 1 → ¬ nI (ov_due k) = 1 := by decide
theorem ov_due2 : ∀ k, k < 5 → ov_due k ≤ 2 := by decide
theorem ov_A0 {p : Nat} {h : Nat → Nat} {a : Nat → Int32} (hA : ov_A p h a) {l : Nat} (hl : l < 5) : a (85 * l + 0) = 2 := by
  rw [hA l 0 hl (by decide), if_pos rfl]
theorem ov_Ap {p : Nat} {h : Nat → Nat} {a : Nat → Int32} (hA : ov_A p h a) (h1 : 1 ≤ p) (h4 : p ≤ 4) {l : Nat} (hl : l < 5) : a (85 * l + p) = nI (h l) := by
  rw [hA l p hl (by omega), if_neg (by omega), if_pos rfl]
theorem ov_An {p : Nat} {h : Nat → Nat} {a : Nat → Int32} (hA : ov_A p h a) {q : Nat} (hq : q < 85) (h0 : q ≠ 0) (hp : q ≠ p) : ∀ l, l < 5 → a (85 * l + q) = 0 := by
  intro l hl
  rw [hA l q hl hq, if_neg h0, if_neg hp]
/-- one layer's entry changed -/
def ov_up (h : Nat → Nat) (l0 k : Nat) : Nat → Nat := fun l => if l = l0 then k else h l
def ov_uv (v : Nat → Int32) (l0 : Nat) (w : Int32) : Nat → Int32 := fun l => if l = l0 then w else v l
theorem ov_up_s {h : Nat → Nat} {l0 k : Nat} : ov_up h l0 k l0 = k := if_pos rfl
theorem ov_up_n {h : Nat → Nat} {l0 k l : Nat} (n : l ≠ l0) : ov_up h l0 k l = h l := if_neg n
theorem ov_uv_s {v : Nat → Int32} {l0 : Nat} {w : Int32} : ov_uv v l0 w l0 = w := if_pos rfl
theorem ov_uv_n {v : Nat → Int32} {l0 l : Nat} {w : Int32} (n : l ≠ l0) : ov_uv v l0 w l = v l := if_neg n
theorem ov_up_self {h : Nat → Nat} {l0 k : Nat} (e : h l0 = k) : ov_up h l0 k = h := by
  funext l
  by_cases z : l = l0
  · rw [z, ov_up_s, e]
  · rw [ov_up_n z]
theorem ov_Aup {p k l0 : Nat} {h : Nat → Nat} {a : Nat → Int32} (hA : ov_A p h a) (h1 : 1 ≤ p) (h4 : p ≤ 4) : ov_A p (ov_up h l0 k) (upd a (85 * l0 + p) (nI k)) := by
  intro l q hl hq
  by_cases e : 85 * l + q = 85 * l0 + p
  · have e1 : l = l0 := by omega
    have e2 : q = p := by omega
    rw [e, pk_us, e2, if_neg (by omega), if_pos rfl, e1, ov_up_s]
  · rw [pk_un e, hA l q hl hq]
    by_cases z : q = p
    · rw [ov_up_n (by intro y; apply e; rw [z, y])]
    · rw [if_neg z, if_neg z]
theorem ov_Cup {p k l0 : Nat} {h : Nat → Nat} {v a : Nat → Int32} {w x : Int32} (hC : ov_C p h v a) (hx : k = 1 → x = w) : ov_C p (ov_up h l0 k) (ov_uv v l0 w) (upd a (85 * l0 + p) x) := by
  intro l hl e
  by_cases z : l = l0
  · rw [z, ov_up_s] at e
    rw [z, pk_us, ov_uv_s, hx e]
  · rw [ov_up_n z] at e
    rw [pk_un (by omega), ov_uv_n z]
    exact hC l hl e
theorem ov_C0 {p l0 : Nat} {h : Nat → Nat} {v a : Nat → Int32} {w : Int32} (hC : ov_C p h v a) (h0 : h l0 = 0) : ov_C p h (ov_uv v l0 w) a := by
  intro l hl e
  have z : l ≠ l0 := by
    intro z
    rw [z, h0] at e
    exact absurd e (by decide)
  rw [ov_uv_n z]
  exact hC l hl e
/-- the path is written in the top layer -/
theorem ov_Pw {p k : Nat} {w x : Int32} {a1 a2 : Nat → Int32} (H : ov_P p k w a1 a2) : ov_P p 1 x (upd a1 (340 + p) 1) (upd a2 (340 + p) x) := by
  obtain ⟨h1, h4, hk, h, v, hA, hC, hS⟩ := H
  exact ⟨h1, h4, by decide, ov_up h 4 1, ov_uv v 4 x, ov_Aup (k := 1) (l0 := 4) hA h1 h4, ov_Cup (l0 := 4) hC (fun _ => rfl), Or.inr ⟨by decide, 4, by decide, ov_up_s, ov_uv_s, fun l g g' => absurd g (by omega)⟩⟩
/-- among n places there is a last one that isn't zero, or all are -/
theorem ov_top (g : Nat → Int32) : ∀ n, (∀ l, l < n → g l = 0) ∨ ∃ t, t < n ∧ ¬ g t = 0 ∧ ∀ l, t < l → l < n → g l = 0
  | 0 => Or.inl (fun l h => absurd h (by omega))
  | n + 1 => by
    by_cases e : g n = 0
    · rcases ov_top g n with h | ⟨t, ht, hn, h⟩
      · refine Or.inl (fun l hl => ?_)
        by_cases z : l = n
        · rw [z, e]
        · exact h l (by omega)
      · refine Or.inr ⟨t, by omega, hn, fun l h1 h2 => ?_⟩
        by_cases z : l = n
        · rw [z, e]
        · exact h l h1 (by omega)
    · exact Or.inr ⟨n, by omega, e, fun l h1 h2 => absurd h1 (by omega)⟩
end
section
/-! ===== settle, raiseFloor, look, sort ===== -/
section
variable {post : St2 → Prop} {m fl f0 : Int32} {a1 a2 a3 a4 a5 : Nat → Int32}
theorem ov_s51n {x f : Int32} (H : post (m, -1, f, a1, a2, a3, a4, a5)) : wX_settle_51 post x m (-1) f a1 a2 a3 a4 a5 := br_t (by decide) H
theorem ov_s7z {q f : Nat} (hq : q < 85) (hf : f ≤ 5) (hz : ∀ l, l < 5 → a1 (85 * l + q) = 0) (H : post (m, -1, nI f, a1, a2, a3, a4, a5)) : ∀ k, k ≤ 5 → wX_settle_7 post (nI q) m (nI f) a1 a2 a3 a4 a5 (k + 1) (nI k + (-1)) (-1)
  | 0, _ => br_t (ov_m1lt f (by omega)) (ov_s51n H)
  | k + 1, hk => by
    rw [pk_m1]
    refine br_c (fun _ => ov_s51n H) (fun _ => br_f (by decide) ⟨ov_in (by omega) hq, br_t ?_ (nm_e ?_)⟩)
    · rw [ov_cl (by omega) hq]
      exact hz k (by omega)
    · exact ov_s7z hq hf hz H k (by omega)
theorem ov_settleZ {q f : Nat} (hq : q < 85) (hf : f ≤ 5) (hz : ∀ l, l < 5 → a1 (85 * l + q) = 0) (H : post (m, -1, nI f, a1, a2, a3, a4, a5)) : wpX_settle post (m, fl, nI f, a1, a2, a3, a4, a5) (nI q) := by
  have h := ov_s7z hq hf hz H 5 (by decide)
  rw [ov_54] at h
  exact ⟨6, h⟩
theorem ov_s7t {q t : Nat} (hq : q < 85) (ht : t < 5) (hn : ¬ a1 (85 * t + q) = 0) (hz : ∀ l, t < l → l < 5 → a1 (85 * l + q) = 0) (H : wX_settle_51 post (nI q) m (nI t) 0 a1 a2 a3 a4 a5) : ∀ c, t + c < 5 → wX_settle_7 post (nI q) m 0 a1 a2 a3 a4 a5 (c + 2) (nI (t + c)) (-1)
  | 0, _ => by
    show wX_settle_7 post (nI q) m 0 a1 a2 a3 a4 a5 2 (nI t) (-1)
    refine br_f (nI_pos (by omega)) (br_f (by decide) ⟨ov_in ht hq, br_f ?_ (nm_e ?_)⟩)
    · rw [ov_cl ht hq]
      exact hn
    · exact br_c (fun _ => H) (fun _ => br_t (nI_pos' (by omega)) H)
  | c + 1, hc => by
    refine br_f (nI_pos (by omega)) (br_f (by decide) ⟨ov_in hc hq, br_t ?_ (nm_r (pk_m1 (t + c)) ?_)⟩)
    · rw [ov_cl hc hq]
      exact hz (t + (c + 1)) (by omega) hc
    · exact ov_s7t hq ht hn hz H c (by omega)
theorem ov_settleT {q t : Nat} (hq : q < 85) (ht : t < 5) (hn : ¬ a1 (85 * t + q) = 0) (hz : ∀ l, t < l → l < 5 → a1 (85 * l + q) = 0) (H : a1 (85 * t + q) = 4 → post (m, -1, 0, a1, a2, a3, a4, a5)) (H' : ¬ a1 (85 * t + q) = 4 → post (m, nI t, 0, a1, a2, a3, a4, a5)) : wpX_settle post (m, fl, 0, a1, a2, a3, a4, a5) (nI q) := by
  have K : wX_settle_51 post (nI q) m (nI t) 0 a1 a2 a3 a4 a5 := by
    refine br_f (nI_pos (by omega)) ⟨ov_in ht hq, ?_⟩
    rw [ov_cl ht hq]
    exact ⟨H, H'⟩
  have h := ov_s7t hq ht hn hz K (4 - t) (by omega)
  rw [show t + (4 - t) = 4 by omega] at h
  exact ⟨4 - t + 2, h⟩
theorem ov_settleW {q : Nat} (hq : q < 85) (H : ∀ x, (x = -1 ∨ ∃ t, t < 5 ∧ x = nI t) → post (m, x, 0, a1, a2, a3, a4, a5)) : wpX_settle post (m, fl, 0, a1, a2, a3, a4, a5) (nI q) := by
  rcases ov_top (fun l => a1 (85 * l + q)) 5 with h | ⟨t, ht, hn, h⟩
  · exact ov_settleZ (f := 0) hq (by decide) h (H (-1) (Or.inl rfl))
  · exact ov_settleT hq ht hn h (fun _ => H (-1) (Or.inl rfl)) (fun _ => H (nI t) (Or.inr ⟨t, ht, rfl⟩))
theorem ov_rf {q : Nat} (hq : q < 85) (H : ∀ f, f ≤ 5 → post (m, fl, nI f, a1, a2, a3, a4, a5)) : ∀ k f, k ≤ 5 → f ≤ 5 → wX_raiseFloor_2 post (nI q) m fl a1 a2 a3 a4 a5 (k + 1) (nI k + (-1)) (nI f)
  | 0, f, _, hf => br_t (ov_m1lt f (by omega)) (H f hf)
  | k + 1, f, hk, hf => by
    have K1 := ov_rf hq H k k (by omega) (by omega)
    have K2 := ov_rf hq H k (k + 1) (by omega) (by omega)
    have K3 := ov_rf hq H k f (by omega) hf
    rw [pk_m1]
    refine br_c (fun _ => H f hf) (fun _ => ⟨ov_in (by omega) hq, nm_e ?_⟩)
    exact br_c (fun _ => nm_e K1) (fun _ => br_c (fun _ => nm_r (nI_1 k) (nm_e K2)) (fun _ => br_c (fun _ => nm_r (nI_1 k) (nm_e K2)) (fun _ => nm_e K3)))
theorem ov_raise {q : Nat} (hq : q < 85) (H : ∀ f, f ≤ 5 → post (m, fl, nI f, a1, a2, a3, a4, a5)) : wpX_raiseFloor post (m, fl, 0, a1, a2, a3, a4, a5) (nI q) := by
  have h := ov_rf hq H 5 0 (by decide) (by decide)
  rw [ov_54] at h
  exact ⟨6, h⟩
/-- below a settled path: nothing more is found -/
theorem ov_110 {e a w : Nat} {z : Int32} (he : e ≤ 1) (ha : a < 85) (ea : a3 (e + 1) = nI a) (hw : w < 85) (ew : a3 e = nI w) (hz : ∀ l, l < 5 → a1 (85 * l + w) = 0) (H : ∀ f, post (m, -1, f, a1, a2, a3, a4, a5)) (h : z = -1 ∨ ∃ t, t < 5 ∧ z = nI t) : wX_look_110 post (wX_look_46 post 2) (nI (e + 1)) z m fl 0 a1 a2 a3 a4 a5 := by
  refine ⟨vp_in_nI (by omega) (by decide), ?_⟩
  rw [nI_clamp (by omega), ea]
  refine ov_raise ha (fun f hf => ?_)
  refine nm_r (pk_m1 e) ?_
  rcases h with rfl | ⟨t, ht, rfl⟩
  · exact br_f (nI_pos (by omega)) (br_t (by decide) (H _))
  · refine br_f (nI_pos (by omega)) (br_f (nI_pos (by omega)) ⟨vp_in_nI (by omega) (by decide), ?_⟩)
    rw [nI_clamp (by omega), ew]
    refine ov_settleZ hw hf hz ?_
    exact br_t (by decide) (nm_e (br_c (fun _ => H _) (fun _ => br_t (by decide) (H _))))
theorem ov_46 {e a w : Nat} (he : e ≤ 1) (ha : a < 85) (ea : a3 (e + 1) = nI a) (hw : w < 85) (ew : a3 e = nI w) (hz : ∀ l, l < 5 → a1 (85 * l + w) = 0) (H : ∀ f, post (m, -1, f, a1, a2, a3, a4, a5)) : wX_look_46 post 3 (nI (e + 1)) m 4 0 a1 a2 a3 a4 a5 := by
  refine br_f (nI_pos (by omega)) (br_f (by decide) ⟨vp_in_nI (by omega) (by decide), ?_⟩)
  rw [nI_clamp (by omega), ea]
  refine ov_settleW ha (fun x hx => ?_)
  rcases hx with rfl | ⟨t, ht, rfl⟩
  · exact br_t (by decide) (nm_e (br_c (fun _ => H _) (fun _ => br_t (by decide) (H _))))
  · refine br_f (nI_pos (by omega)) (br_f (nI_nle (by omega) (by omega)) ⟨vp_in_nI (by omega) (by decide), ?_, ?_⟩)
    · rw [ea]
      exact ov_in ht ha
    · exact br_c (fun _ => ov_110 he ha ea hw ew hz H (Or.inl rfl)) (fun _ => ov_110 he ha ea hw ew hz H (Or.inr ⟨t, ht, rfl⟩))
theorem ov_l4 {n d q : Nat} (hd : d < 4) (h1 : 1 ≤ q) (hq : q < 85) (H : wX_look_4 post m fl f0 n (nI (d + 1)) (nI ((q - 1) / 4)) a1 a2 (upd a3 d (nI q)) a4 a5) : wX_look_4 post m fl f0 (n + 1) (nI d) (nI q) a1 a2 a3 a4 a5 :=
  br_f (nI_nle (by omega) (by omega)) (br_f (nI_ge (b := 4) hd (by decide)) ⟨vp_in_nI hd (by decide), nm_r (e' := upd a3 d (nI q)) (by rw [nI_clamp (by omega)]) (nm_r (nI_1 d) ⟨by decide, nm_r (ov_par h1 hq) H⟩)⟩)
theorem ov_l4x {n d : Nat} (H : ∃ k, wX_look_46 post k (nI d) m 4 0 a1 a2 a3 a4 a5) : wX_look_4 post m fl f0 (n + 1) (nI (d + 1)) (nI 0) a1 a2 a3 a4 a5 := br_t (by decide) (nm_r (nI_pred d) H)
theorem ov_look0 (H : post (m, 4, 0, a1, a2, a3, a4, a5)) : wpX_look post (m, fl, f0, a1, a2, a3, a4, a5) (nI 0) := ⟨1, br_t (by decide) (nm_e ⟨1, br_t (by decide) H⟩)⟩
theorem ov_look1 {q : Nat} {Q : Int32 → Prop} (h1 : 1 ≤ q) (h4 : q ≤ 4) (S : ∀ (b3 : Nat → Int32) (P : St2 → Prop), (∀ x, Q x → P (m, x, 0, a1, a2, b3, a4, a5)) → wpX_settle P (m, 4, 0, a1, a2, b3, a4, a5) (nI q)) (H : ∀ x b3, Q x → post (m, x, 0, a1, a2, b3, a4, a5)) : wpX_look post (m, fl, f0, a1, a2, a3, a4, a5) (nI q) := by
  refine ⟨2, ov_l4 (d := 0) (by decide) h1 (by omega) ?_⟩
  rw [show (q - 1) / 4 = 0 by omega]
  refine ov_l4x ⟨2, br_f (by decide) (br_f (by decide) ⟨vp_in_nI (by decide) (by decide), ?_⟩)⟩
  rw [nI_clamp (show 0 < 2 ^ 31 by decide), pk_us]
  refine S _ _ (fun x hx => ?_)
  exact br_c (fun _ => nm_e (br_t (by decide) (H x _ hx))) (fun _ => br_t (by decide) (nm_e (br_t (by decide) (H x _ hx))))
theorem ov_lookD {p q : Nat} {h : Nat → Nat} (hA : ov_A p h a1) (hp : p ≤ 4) (h5 : 5 ≤ q) (hq : q < 85) (H : ∀ f b3, post (m, -1, f, a1, a2, b3, a4, a5)) : wpX_look post (m, fl, f0, a1, a2, a3, a4, a5) (nI q) := by
  by_cases z : (q - 1) / 4 ≤ 4
  · refine ⟨3, ov_l4 (d := 0) (by decide) (by omega) hq (ov_l4 (d := 1) (by decide) (by omega) (by omega) ?_)⟩
    rw [show ((q - 1) / 4 - 1) / 4 = 0 by omega]
    exact ov_l4x ⟨3, ov_46 (e := 0) (a := (q - 1) / 4) (w := q) (by decide) (by omega) pk_us hq (by rw [pk_un (by decide), pk_us]) (ov_An hA hq (by omega) (by omega)) (fun f => H f _)⟩
  · refine ⟨4, ov_l4 (d := 0) (by decide) (by omega) hq (ov_l4 (d := 1) (by decide) (by omega) (by omega) (ov_l4 (d := 2) (by decide) (by omega) (by omega) ?_))⟩
    rw [show (((q - 1) / 4 - 1) / 4 - 1) / 4 = 0 by omega]
    exact ov_l4x ⟨3, ov_46 (e := 1) (a := ((q - 1) / 4 - 1) / 4) (w := (q - 1) / 4) (by decide) (by omega) pk_us (by omega) (by rw [pk_un (by decide), pk_us]) (ov_An hA (by omega) (by omega) (by omega)) (fun f => H f _)⟩
end
section
variable {post : Int32 → St2 → Prop} {fl f0 : Int32} {a1 a2 a3 a4 a5 : Nat → Int32}
theorem ov_sort0 {p : Nat} {h : Nat → Nat} (hA : ov_A p h a1) (H : ∀ x f b3, post 2 (1, x, f, a1, a2, b3, a4, a5)) : wpX_sort post (1, fl, f0, a1, a2, a3, a4, a5) (nI 0) := by
  refine br_f (by decide) (br_t (by decide) (br_f (by decide) (ov_look0 ?_)))
  refine br_t (by decide) ⟨ov_in (l := 4) (q := 0) (by decide) (by decide), br_f ?_ (H _ _ _)⟩
  show ¬ a1 ((85 : Int32) * nI 4 + nI 0).toNatClampNeg = 1
  rw [ov_cl (by decide) (by decide), ov_A0 hA (by decide)]
  decide
theorem ov_sortN {p q : Nat} {h : Nat → Nat} (hA : ov_A p h a1) (hp : p ≤ 4) (h1 : 1 ≤ q) (hq : q < 85) (n : q ≠ p) (H : ∀ x f b3, post 0 (1, x, f, a1, a2, b3, a4, a5)) : wpX_sort post (1, fl, f0, a1, a2, a3, a4, a5) (nI q) := by
  refine br_f (nI_pos (by omega)) (br_t (nI_le (b := 84) (by omega) (by decide)) (br_f (by decide) ?_))
  by_cases z : q ≤ 4
  · refine ov_look1 (Q := fun x => x = -1) h1 z (fun b3 P hP => ov_settleZ (f := 0) hq (by decide) (ov_An hA hq (by omega) n) (hP _ rfl)) (fun x b3 hx => ?_)
    subst hx
    exact br_f (by decide) (H _ _ _)
  · refine ov_lookD hA hp (by omega) hq (fun f b3 => ?_)
    exact br_f (by decide) (H _ _ _)
theorem ov_sortP {p k : Nat} {w : Int32} (hP : ov_P p k w a1 a2) (H : ∀ x f b3, (k = 1 → ∃ t, t < 5 ∧ x = nI t ∧ a2 (85 * t + p) = w) → post (nI (ov_due k)) (1, x, f, a1, a2, b3, a4, a5)) : wpX_sort post (1, fl, f0, a1, a2, a3, a4, a5) (nI p) := by
  obtain ⟨h1, h4, hk, h, v, hA, hC, hS⟩ := hP
  have hq : p < 85 := by omega
  refine br_f (nI_pos (by omega)) (br_t (nI_le (b := 84) (by omega) (by decide)) (br_f (by decide) ?_))
  rcases hS with ⟨rfl, hz⟩ | ⟨hk0, t, ht, e, ew, hz⟩
  · have hz' : ∀ l, l < 5 → a1 (85 * l + p) = 0 := by
      intro l hl
      rw [ov_Ap hA h1 h4 hl, hz l hl]
      rfl
    refine ov_look1 (Q := fun x => x = -1) h1 h4 (fun b3 P hP => ov_settleZ (f := 0) hq (by decide) hz' (hP _ rfl)) (fun x b3 hx => ?_)
    subst hx
    exact br_f (by decide) (H _ _ _ (fun z => absurd z (by decide)))
  · have ap : a1 (85 * t + p) = nI k := by rw [ov_Ap hA h1 h4 ht, e]
    have hn : ¬ a1 (85 * t + p) = 0 := by
      rw [ap]
      exact nI_ne0 (by omega) (by omega)
    have hz' : ∀ l, t < l → l < 5 → a1 (85 * l + p) = 0 := by
      intro l g hl
      rw [ov_Ap hA h1 h4 hl, hz l g hl]
      rfl
    refine ov_look1 (Q := fun x => (k = 4 ∧ x = -1) ∨ (k ≠ 4 ∧ x = nI t)) h1 h4 (fun b3 P hP => ov_settleT hq ht hn hz' (fun g => hP _ (Or.inl ⟨?_, rfl⟩)) (fun g => hP _ (Or.inr ⟨?_, rfl⟩))) (fun x b3 hx => ?_)
    · rw [ap] at g
      exact (nI_eq (by omega) (show 4 < 2 ^ 31 by decide)).mp g
    · intro y
      apply g
      rw [ap, y]
      rfl
    · rcases hx with ⟨k4, rfl⟩ | ⟨k4, rfl⟩
      · subst k4
        exact br_f (by decide) (H _ _ _ (fun z => absurd z (by decide)))
      · refine br_t (nI_pos' (by omega)) ⟨ov_in ht hq, ?_⟩
        rw [ov_cl ht hq, ap]
        refine pk_eq k 1 (fun z => ?_) (fun z => ?_)
        · subst z
          exact H _ _ _ (fun _ => ⟨t, ht, rfl, by rw [hC t ht e, ew]⟩)
        · have y : k = 2 ∨ k = 3 := by omega
          rcases y with y | y
          · subst y
            exact H _ _ _ (fun z => absurd z (by decide))
          · subst y
            exact H _ _ _ (fun z => absurd z (by decide))
end
end
section
/-! ===== init, fill, total, mount, value, write, isRoom, make ===== -/
section
variable {post : St2 → Prop} {m fl f0 : Int32} {a1 a2 a3 a4 a5 : Nat → Int32}
theorem ov_init {p : Nat} (H : ∀ b1, ov_A p (fun _ => 0) b1 → post (m, fl, f0, b1, (fun _ => 0), (fun _ => 0), (fun _ => 0), (fun _ => 0))) : wpX_init post 5 1024 (m, fl, f0) := by
  refine ⟨by decide, by decide, by decide, by decide, by decide, by decide, by decide, by decide, by decide, by decide, ?_⟩
  refine pk_loop (fun n i s => wX_init_47 post 5 1024 5 1024 m fl f0 n (nI i) s (fun _ => 0) (fun _ => 0) (fun _ => 0) (fun _ => 0)) (fun i s => ∀ l q, l < 5 → q < 85 → s (85 * l + q) = if q = 0 ∧ l < i then 2 else 0) 5 0 (fun _ => 0) (by decide) ?_ ?_ ?_
  · intro l q hl hq
    rw [if_neg (by omega)]
  · intro n s h
    refine br_t (by decide) (H s ?_)
    intro l q hl hq
    rw [h l q hl hq]
    by_cases z : q = 0
    · rw [if_pos ⟨z, hl⟩, if_pos z]
    · rw [if_neg (fun y => z y.1), if_neg z]
      by_cases y : q = p
      · rw [if_pos y]
        rfl
      · rw [if_neg y]
  · intro n i s hi h hw
    have e : (85 : Int32) * nI i = nI (85 * i) := by
      rw [show (85 : Int32) = nI 85 from rfl, pk_mul]
    refine br_f (nI_ge (b := 5) hi (by decide)) ⟨by rw [e]; exact vp_in_nI (by omega) (by decide), nm_r (e' := upd s (85 * i) 2) (by rw [e, nI_clamp (by omega)]) (nm_r (nI_1 i) (hw _ ?_))⟩
    intro l q hl hq
    by_cases z : 85 * l + q = 85 * i
    · rw [z, pk_us, if_pos (by omega)]
    · rw [pk_un z, h l q hl hq]
      by_cases y : q = 0 ∧ l < i
      · rw [if_pos y, if_pos (by omega)]
      · rw [if_neg y, if_neg (by omega)]
theorem ov_copy0 (H : post (m, fl, f0, a1, a2, a3, a4, a5)) : wpX_copyUpTo post (m, fl, f0, a1, a2, a3, a4, a5) (nI 0) := ⟨1, br_f (by decide) (br_t (by decide) H)⟩
theorem ov_put {p : Nat} {x y : Int32} (hp : p < 85) (H : post (m, fl, f0, upd a1 (340 + p) x, upd a2 (340 + p) y, a3, a4, a5)) : wpX_put post (m, fl, f0, a1, a2, a3, a4, a5) (nI p) x y := by
  have e : (340 : Int32) + nI p = nI (340 + p) := nI_add 340 p
  have i : vp_in ((340 : Int32) + nI p) 425 := by
    rw [e]
    exact vp_in_nI (by omega) (by decide)
  have c : ((340 : Int32) + nI p).toNatClampNeg = 340 + p := by
    rw [e]
    exact nI_clamp (by omega)
  exact ⟨i, nm_r (by rw [c]) ⟨i, nm_r (by rw [c]) H⟩⟩
end
section
variable {post : Int32 → St2 → Prop} {fl f0 : Int32} {a1 a2 a3 a4 a5 : Nat → Int32}
theorem ov_fill {p k l0 : Nat} {h : Nat → Nat} {v : Nat → Int32} {w : Int32} (h1 : 1 ≤ p) (h4 : p ≤ 4) (hk : k ≤ 4) (hl : l0 ≤ 2) (hA : ov_A p h a1) (hC : ov_C p h v a2) (h0 : h l0 = 0) (H : ∀ b1 b2, ov_A p (ov_up h l0 k) b1 → ov_C p (ov_up h l0 k) (ov_uv v l0 w) b2 → post (if k = 0 then -1 else 0) (0, fl, f0, b1, b2, a3, a4, a5)) : wpX_fill post (0, fl, f0, a1, a2, a3, a4, a5) (nI l0) (nI p) (nI k) w := by
  have hl5 : l0 < 5 := by omega
  have hq : p < 85 := by omega
  refine br_t rfl (br_f (nI_pos (by omega)) (br_f (nI_nlt (a := 2) hl (by decide)) (br_f (nI_nlt (b := 1) h1 (by omega)) (br_f (nI_nlt (a := 84) (by omega) (by decide)) ?_))))
  by_cases k0 : k = 0
  · rw [if_pos k0] at H
    subst k0
    rw [ov_up_self h0] at H
    exact br_t (by decide) (H a1 a2 hA (ov_C0 hC h0))
  · rw [if_neg k0] at H
    refine br_f (nI_nlt (b := 1) (by omega) (by omega)) (br_t (nI_le (b := 4) hk (by decide)) ⟨by decide, ?_⟩)
    rw [ov_par0 h1 h4]
    refine ⟨ov_in hl5 (by decide), nm_r (e' := 2) (by rw [ov_cl hl5 (by decide), ov_A0 hA hl5]) ⟨ov_in hl5 hq, br_t (by rw [ov_cl hl5 hq, ov_Ap hA h1 h4 hl5, h0]; rfl) (br_t rfl ?_)⟩⟩
    refine ⟨ov_in hl5 hq, nm_r (e' := upd a1 (85 * l0 + p) (nI k)) (by rw [ov_cl hl5 hq]) ?_⟩
    refine pk_eq k 1 (fun z => ⟨ov_in hl5 hq, nm_r (e' := upd a2 (85 * l0 + p) w) (by rw [ov_cl hl5 hq]) ?_⟩) (fun z => ⟨ov_in hl5 hq, nm_r (e' := upd a2 (85 * l0 + p) 0) (by rw [ov_cl hl5 hq]) ?_⟩)
    · exact H _ _ (ov_Aup hA h1 h4) (ov_Cup hC (fun _ => rfl))
    · exact H _ _ (ov_Aup hA h1 h4) (ov_Cup hC (fun y => absurd y z))
theorem ov_total {p k : Nat} {w : Int32} (hP : ov_P p k w a1 a2) (H : ∀ x f b3, post (if ov_due k = 0 then 0 else 1) (1, x, f, a1, a2, b3, a4, a5)) : wpX_total post (1, fl, f0, a1, a2, a3, a4, a5) := by
  have hP' := hP
  obtain ⟨h1, h4, hk, h, v, hA, hC, hS⟩ := hP'
  have hd := ov_due2 k (by omega)
  have hc : ∃ c : Nat, c = if ov_due k = 0 then 0 else 1 := ⟨_, rfl⟩
  obtain ⟨c, ec⟩ := hc
  have H' : ∀ x f b3, post (nI c) (1, x, f, a1, a2, b3, a4, a5) := by
    intro x f b3
    have t := H x f b3
    by_cases z : ov_due k = 0
    · rw [if_pos z] at t
      rw [ec, if_pos z]
      exact t
    · rw [if_neg z] at t
      rw [ec, if_neg z]
      exact t
  refine Exists.elim (pk_loop (σ := Int32 × Int32 × (Nat → Int32)) (fun n i s => wX_total_4 post n (nI (if p < i then c else 0)) (nI i) 1 s.1 s.2.1 a1 a2 s.2.2 a4 a5) (fun i _ => 1 ≤ i) 85 1 (fl, f0, a3) (by decide) (by decide) ?_ ?_) (fun n hn => ?_)
  rotate_left 2
  · have hn' : wX_total_4 post n (nI (if p < 1 then c else 0)) (nI 1) 1 fl f0 a1 a2 a3 a4 a5 := hn
    rw [if_neg (by omega)] at hn'
    exact ⟨n, hn'⟩
  · intro n s _
    refine br_t (by decide) ?_
    show post (nI (if p < 85 then c else 0)) (1, s.1, s.2.1, a1, a2, s.2.2, a4, a5)
    rw [if_pos (by omega)]
    exact H' _ _ _
  · intro n i s hi hi1 hw
    have hw' : ∀ x f b3, wX_total_4 post n (nI (if p < i + 1 then c else 0)) (nI (i + 1)) 1 x f a1 a2 b3 a4 a5 := fun x f b3 => hw (x, f, b3) (by omega)
    refine br_f (nI_ge (b := 85) hi (by decide)) ?_
    by_cases e : i = p
    · subst e
      rw [if_neg (show ¬ i < i by omega)]
      rw [if_pos (show i < i + 1 by omega)] at hw'
      refine ov_sortP hP (fun x f b3 _ => ?_)
      refine pk_le (ov_due k) 0 (fun z => nm_r ?_ (nm_r (nI_1 i) (hw' x f b3))) (fun z => nm_r ?_ (nm_r (nI_1 i) (hw' x f b3)))
      · rw [ec, if_pos (by omega)]
        rfl
      · rw [ec, if_neg (by omega)]
        rfl
    · have e2 : (p < i + 1) ↔ (p < i) := by omega
      simp only [e2] at hw'
      refine ov_sortN hA h4 hi1 hi e (fun x f b3 => ?_)
      exact br_t (by decide) (nm_r (Int32.add_zero _) (nm_r (nI_1 i) (hw' x f b3)))
theorem ov_mount {p k : Nat} {w : Int32} (hP : ov_P p k w a1 a2) (H : ∀ x f b3, post (if ov_due k = 0 then 0 else 1) (1, x, f, a1, a2, b3, a4, a5)) : wpX_mount post (0, fl, f0, a1, a2, a3, a4, a5) :=
  br_t rfl (ov_total hP H)
theorem ov_value {p k : Nat} {w : Int32} (hP : ov_P p k w a1 a2) (H : ∀ x f b3, post (if k = 1 then w else 0) (1, x, f, a1, a2, b3, a4, a5)) : wpX_value post (1, fl, f0, a1, a2, a3, a4, a5) (nI p) := by
  unfold wpX_value
  refine ov_sortP hP (fun x f b3 hx => ?_)
  obtain ⟨h1, h4, hk, h, v, hA, hC, hS⟩ := hP
  by_cases z : k = 1
  · obtain ⟨t, ht, e, ew⟩ := hx z
    rw [if_pos z] at H
    subst z e
    refine br_t (by decide) ⟨ov_in ht (by omega), ?_⟩
    rw [ov_cl ht (by omega), ew]
    exact H _ _ _
  · rw [if_neg z] at H
    exact br_f (ov_due1 k (by omega) z) (H _ _ _)
theorem ov_write1 {p : Nat} {w y : Int32} (hP : ov_P p 1 w a1 a2) (H : ∀ x f b3, post w (1, x, f, upd a1 (340 + p) 1, upd a2 (340 + p) y, b3, a4, a5)) : wpX_write post (1, fl, f0, a1, a2, a3, a4, a5) (nI p) y := by
  unfold wpX_write
  refine ov_sortP hP (fun x f b3 _ => ?_)
  refine br_t (by decide) ?_
  refine ov_value hP (fun x f b3 => ?_)
  rw [if_pos rfl]
  refine ⟨by decide, ?_⟩
  rw [ov_par0 hP.1 hP.2.1]
  refine ov_copy0 ?_
  refine ov_put (by have := hP.2.1; omega) ?_
  exact H _ _ _
theorem ov_writeN {p k : Nat} {w y : Int32} (hP : ov_P p k w a1 a2) (z : k ≠ 1) (H : ∀ x f b3, post (-1) (1, x, f, a1, a2, b3, a4, a5)) : wpX_write post (1, fl, f0, a1, a2, a3, a4, a5) (nI p) y := by
  unfold wpX_write
  refine ov_sortP hP (fun x f b3 _ => ?_)
  exact br_f (ov_due1 k (by have := hP.2.2.1; omega) z) (H _ _ _)
theorem ov_room1 {p k : Nat} {w : Int32} (hP : ov_P p k w a1 a2) (z : ov_due k = 0) (H : ∀ x f b3, post 1 (1, x, f, a1, a2, b3, a4, a5)) : wpX_isRoom post (1, fl, f0, a1, a2, a3, a4, a5) (nI p) := by
  have h1 := hP.1
  have h4 := hP.2.1
  refine br_f (by decide) (br_f (nI_nlt (b := 1) h1 (by omega)) (br_f (nI_nlt (a := 84) (by omega) (by decide)) (ov_sortP hP (fun x f b3 _ => ?_))))
  rw [z]
  refine br_t rfl ⟨by decide, ?_⟩
  rw [ov_par0 h1 h4]
  obtain ⟨_, _, hk, h, v, hA, hC, hS⟩ := hP
  refine ov_sort0 hA (fun x f b3 => ?_)
  exact br_t rfl (H _ _ _)
theorem ov_room0 {p k : Nat} {w : Int32} (hP : ov_P p k w a1 a2) (z : ov_due k ≠ 0) (H : ∀ x f b3, post 0 (1, x, f, a1, a2, b3, a4, a5)) : wpX_isRoom post (1, fl, f0, a1, a2, a3, a4, a5) (nI p) := by
  have h1 := hP.1
  have h4 := hP.2.1
  have hd := ov_due2 k (by have := hP.2.2.1; omega)
  refine br_f (by decide) (br_f (nI_nlt (b := 1) h1 (by omega)) (br_f (nI_nlt (a := 84) (by omega) (by decide)) (ov_sortP hP (fun x f b3 _ => ?_))))
  exact br_f (nI_ne0 (by omega) (by omega)) (H _ _ _)
theorem ov_make1 {p k : Nat} {w y : Int32} (hP : ov_P p k w a1 a2) (z : ov_due k = 0) (H : ∀ u, post 0 u) : wpX_make post (1, fl, f0, a1, a2, a3, a4, a5) (nI p) y := by
  unfold wpX_make
  refine ov_room1 hP z (fun x f b3 => ?_)
  refine br_f (by decide) ⟨by decide, ?_⟩
  rw [ov_par0 hP.1 hP.2.1]
  refine ov_copy0 ?_
  refine ov_put (by have := hP.2.1; omega) ?_
  exact H _
theorem ov_make0 {p k : Nat} {w y : Int32} (hP : ov_P p k w a1 a2) (z : ov_due k ≠ 0) (H : ∀ u, post (-1) u) : wpX_make post (1, fl, f0, a1, a2, a3, a4, a5) (nI p) y := by
  unfold wpX_make
  refine ov_room0 hP z (fun x f b3 => ?_)
  exact br_t rfl (H _)
end
end
section
/-! ===== the law ===== -/
section
variable {post : Int32 → St0 → Prop} {mc ms kc ks p k : Nat} {w x4 fl f0 : Int32} {a1 a2 a3 a4 a5 : Nat → Int32}
theorem ov_296 {z : Int32} (Hp : post 1 ()) (hP : ov_P p k w a1 a2) : wL_lawOf_296 post mc ms x4 (nI p) (nI (ov_due k)) z z kc ks 1 fl f0 a1 a2 a3 a4 a5 := by
  have hd := ov_due2 k (by have := hP.2.2.1; omega)
  refine br_t rfl ?_
  by_cases e : ov_due k = 0
  · refine ov_make1 hP e (fun u => ?_)
    exact br_t (by rw [e]; rfl) (br_t rfl Hp)
  · refine ov_make0 hP e (fun u => ?_)
    exact br_f (nI_ne0 (by omega) (by omega)) (br_t rfl Hp)
theorem ov_274 {z : Int32} (Hp : post 1 ()) (hP : ov_P p k w a1 a2) (hw : k = 1 → w = x4) : wL_lawOf_274 post mc ms x4 (nI p) (nI (ov_due k)) z z kc ks 1 fl f0 a1 a2 a3 a4 a5 := by
  refine br_t rfl ?_
  refine ov_value hP (fun x f b3 => ?_)
  by_cases e : k = 1
  · rw [if_pos e, hw e]
    exact br_t (by rw [e]; rfl) (ov_296 Hp hP)
  · rw [if_neg e]
    exact br_f (ov_due1 k (by have := hP.2.2.1; omega) e) (ov_296 Hp hP)
theorem ov_248 {z : Int32} (Hp : post 1 ()) (hP : ov_P p k w a1 a2) : wL_lawOf_248 post mc ms x4 (nI p) w (nI (ov_due k)) z z kc ks 1 fl f0 a1 a2 a3 a4 a5 := by
  refine br_t rfl ?_
  by_cases e : k = 1
  · subst e
    refine ov_write1 hP (fun x f b3 => ?_)
    exact br_t (by decide) (ov_274 (k := 1) (w := x4) Hp (ov_Pw hP) (fun _ => rfl))
  · refine ov_writeN hP e (fun x f b3 => ?_)
    exact br_f (ov_due1 k (by have := hP.2.2.1; omega) e) (ov_274 Hp hP (fun y => absurd y e))
theorem ov_214 {z : Int32} (Hp : post 1 ()) (hP : ov_P p k w a1 a2) : wL_lawOf_214 post mc ms x4 (nI p) w (nI (ov_due k)) z z kc ks 1 fl f0 a1 a2 a3 a4 a5 := by
  refine br_t rfl ?_
  refine ov_sortP hP (fun x f b3 _ => ?_)
  refine br_t rfl ?_
  refine ov_value hP (fun x f b3 => ?_)
  by_cases e : k = 1
  · rw [if_pos e]
    exact br_t (by rw [e]; rfl) (ov_248 Hp hP)
  · rw [if_neg e]
    exact br_f (ov_due1 k (by have := hP.2.2.1; omega) e) (ov_248 Hp hP)
theorem ov_197 (Hp : post 1 ()) (hP : ov_P p k w a1 a2) : wL_lawOf_197 post mc ms x4 (nI p) w (nI (ov_due k)) kc ks 0 fl f0 a1 a2 a3 a4 a5 := by
  have hd := ov_due2 k (by have := hP.2.2.1; omega)
  unfold wL_lawOf_197
  refine ov_mount hP (fun x f b3 => ?_)
  by_cases e : ov_due k = 0
  · rw [if_pos e]
    exact br_t (by rw [e]; rfl) (ov_214 Hp hP)
  · rw [if_neg e]
    exact br_f (nI_ne0 (by omega) (by omega)) (ov_214 Hp hP)
theorem ov_168 (Hp : post 1 ()) (hP : ov_P p k w a1 a2) : wL_lawOf_168 post mc ms x4 (nI p) (nI k) w kc ks 0 fl f0 a1 a2 a3 a4 a5 := by
  have hk := hP.2.2.1
  refine pk_eq k 1 (fun e => ?_) (fun e1 => pk_eq k 2 (fun e => ?_) (fun e2 => pk_eq k 3 (fun e => ?_) (fun e3 => ?_)))
  · subst e
    exact ov_197 (k := 1) Hp hP
  · subst e
    exact ov_197 (k := 2) Hp hP
  · subst e
    exact ov_197 (k := 3) Hp hP
  · have e : k = 0 ∨ k = 4 := by omega
    rcases e with e | e
    · subst e
      exact ov_197 (k := 0) Hp hP
    · subst e
      exact ov_197 (k := 4) Hp hP
theorem ov_117 {a b c : Nat} {h : Nat → Nat} {v : Nat → Int32} {z : Int32} (Hp : post 1 ()) (h1 : 1 ≤ p) (h4 : p ≤ 4) (ha : a ≤ 4) (hb : b ≤ 4) (hc : c ≤ 4) (hA : ov_A p h a1) (hC : ov_C p h v a2) (e0 : h 0 = a) (e1 : h 1 = b) (e2 : h 2 = c) (e3 : ∀ l, 2 < l → h l = 0) (v0 : v 0 = 10) (v1 : v 1 = 20) (v2 : v 2 = 30) : wL_lawOf_117 post mc ms x4 (nI p) (nI a) (nI b) (nI c) z z kc ks 0 fl f0 a1 a2 a3 a4 a5 := by
  refine br_t rfl ?_
  by_cases c0 : c = 0
  · have c0' : nI c = 0 := by rw [c0]; rfl
    refine br_t c0' ?_
    by_cases b0 : b = 0
    · have b0' : nI b = 0 := by rw [b0]; rfl
      refine br_t b0' (br_t c0' (br_t b0' (ov_168 Hp ⟨h1, h4, ha, h, v, hA, hC, ?_⟩)))
      have hz : ∀ l, 0 < l → l < 5 → h l = 0 := by
        intro l g g'
        have y : l = 1 ∨ l = 2 ∨ 2 < l := by omega
        rcases y with y | y | y
        · rw [y, e1, b0]
        · rw [y, e2, c0]
        · exact e3 l y
      by_cases a0 : a = 0
      · refine Or.inl ⟨a0, fun l g => ?_⟩
        by_cases y : l = 0
        · rw [y, e0, a0]
        · exact hz l (by omega) g
      · exact Or.inr ⟨a0, 0, by decide, e0, v0, hz⟩
    · have b0' : ¬ nI b = 0 := nI_ne0 (by omega) (by omega)
      refine br_f b0' (br_t c0' (br_f b0' (ov_168 Hp ⟨h1, h4, hb, h, v, hA, hC, Or.inr ⟨b0, 1, by decide, e1, v1, ?_⟩⟩)))
      intro l g g'
      by_cases y : l = 2
      · rw [y, e2, c0]
      · exact e3 l (by omega)
  · have c0' : ¬ nI c = 0 := nI_ne0 (by omega) (by omega)
    exact br_f c0' (br_f c0' (ov_168 Hp ⟨h1, h4, hc, h, v, hA, hC, Or.inr ⟨c0, 2, by decide, e2, v2, fun l g _ => e3 l g⟩⟩))
theorem ov_90 {a b c : Nat} {h : Nat → Nat} {v : Nat → Int32} {z : Int32} (Hp : post 1 ()) (h1 : 1 ≤ p) (h4 : p ≤ 4) (ha : a ≤ 4) (hb : b ≤ 4) (hc : c ≤ 4) (hA : ov_A p h a1) (hC : ov_C p h v a2) (e0 : h 0 = a) (e1 : h 1 = b) (e2 : ∀ l, 1 < l → h l = 0) (v0 : v 0 = 10) (v1 : v 1 = 20) : wL_lawOf_90 post mc ms x4 (nI p) (nI a) (nI b) (nI c) z z kc ks 0 fl f0 a1 a2 a3 a4 a5 := by
  refine br_t rfl ?_
  refine ov_fill (l0 := 2) h1 h4 hc (by decide) hA hC (e2 2 (by decide)) (fun b1 b2 hA' hC' => ?_)
  have K : ∀ y : Int32, wL_lawOf_117 post mc ms x4 (nI p) (nI a) (nI b) (nI c) y y kc ks 0 fl f0 b1 b2 a3 a4 a5 := fun y => ov_117 Hp h1 h4 ha hb hc hA' hC' (by rw [ov_up_n (by decide), e0]) (by rw [ov_up_n (by decide), e1]) ov_up_s (fun l g => by rw [ov_up_n (by omega)]; exact e2 l (by omega)) (by rw [ov_uv_n (by decide), v0]) (by rw [ov_uv_n (by decide), v1]) ov_uv_s
  by_cases c0 : c = 0
  · rw [if_pos c0]
    exact br_t (by rw [c0]; rfl) (K _)
  · rw [if_neg c0]
    exact br_f (nI_ne0 (by omega) (by omega)) (K _)
theorem ov_65 {a b c : Nat} {h : Nat → Nat} {v : Nat → Int32} {z : Int32} (Hp : post 1 ()) (h1 : 1 ≤ p) (h4 : p ≤ 4) (ha : a ≤ 4) (hb : b ≤ 4) (hc : c ≤ 4) (hA : ov_A p h a1) (hC : ov_C p h v a2) (e0 : h 0 = a) (e2 : ∀ l, 0 < l → h l = 0) (v0 : v 0 = 10) : wL_lawOf_65 post mc ms x4 (nI p) (nI a) (nI b) (nI c) z z kc ks 0 fl f0 a1 a2 a3 a4 a5 := by
  refine br_t rfl ?_
  refine ov_fill (l0 := 1) h1 h4 hb (by decide) hA hC (e2 1 (by decide)) (fun b1 b2 hA' hC' => ?_)
  have K : ∀ y : Int32, wL_lawOf_90 post mc ms x4 (nI p) (nI a) (nI b) (nI c) y y kc ks 0 fl f0 b1 b2 a3 a4 a5 := fun y => ov_90 Hp h1 h4 ha hb hc hA' hC' (by rw [ov_up_n (by decide), e0]) ov_up_s (fun l g => by rw [ov_up_n (by omega)]; exact e2 l (by omega)) (by rw [ov_uv_n (by decide), v0]) ov_uv_s
  by_cases b0 : b = 0
  · rw [if_pos b0]
    exact br_t (by rw [b0]; rfl) (K _)
  · rw [if_neg b0]
    exact br_f (nI_ne0 (by omega) (by omega)) (K _)
theorem ov_lawOf (Hp : post 1 ()) (p0 p1 p2 p3 p4 : Int32) : wpL_lawOf post 6 1032 () p0 p1 p2 p3 p4 := by
  obtain ⟨jp, hjp, ep⟩ := pk_andE p3 (m := 3) 2 (by decide)
  obtain ⟨ja, hja, ea⟩ := pk_andE p0 (m := 255) 8 (by decide)
  obtain ⟨jb, hjb, eb⟩ := pk_andE p1 (m := 255) 8 (by decide)
  obtain ⟨jc, hjc, ec⟩ := pk_andE p2 (m := 255) 8 (by decide)
  have R : ∀ j, j < 2 ^ 8 → nI j - nI j / 5 * 5 = nI (j % 5) := fun j hj => pk_rem (d := 5) (by omega) (by decide) (by decide)
  have ha : ja % 5 ≤ 4 := by omega
  have hb : jb % 5 ≤ 4 := by omega
  have hc : jc % 5 ≤ 4 := by omega
  have h1 : 1 ≤ 1 + jp := by omega
  have h4 : 1 + jp ≤ 4 := by omega
  refine ⟨by decide, by decide, 5, 1024, by decide, by decide, ov_init (p := 1 + jp) (fun c1 hA => ?_)⟩
  refine nm_r (e' := nI (1 + jp)) (by rw [ep]; exact nI_add 1 jp) ⟨by decide, nm_r (e' := nI (ja % 5)) (by rw [ea]; exact R ja hja) ⟨by decide, nm_r (e' := nI (jb % 5)) (by rw [eb]; exact R jb hjb) ⟨by decide, nm_r (e' := nI (jc % 5)) (by rw [ec]; exact R jc hjc) ?_⟩⟩⟩
  refine ov_fill (l0 := 0) (v := fun _ => 0) h1 h4 ha (by decide) hA (fun l _ g => absurd g (by decide)) rfl (fun b1 b2 hA' hC' => ?_)
  have K : ∀ y : Int32, wL_lawOf_65 post 6 1032 p4 (nI (1 + jp)) (nI (ja % 5)) (nI (jb % 5)) (nI (jc % 5)) y y (1 + 5) (8 + 1024) 0 0 0 b1 b2 (fun _ => 0) (fun _ => 0) (fun _ => 0) := fun y => ov_65 Hp h1 h4 ha hb hc hA' hC' ov_up_s (fun l g => by rw [ov_up_n (by omega)]) ov_uv_s
  by_cases a0 : ja % 5 = 0
  · rw [if_pos a0]
    exact br_t (by rw [a0]; rfl) (K _)
  · rw [if_neg a0]
    exact br_f (nI_ne0 (by omega) (by omega)) (K _)
end
theorem ov_cell {post : Int32 → Prop} {L k : Nat} {xs : Nat → Int32} (hL : L ≤ 5) (hk : k < 5) (H : ∀ r, post r) : wpL_cellAt post L xs () (nI k) :=
  pk_le L k (fun _ => H _) (fun z => ⟨vp_in_nI z (by omega), H _⟩)
theorem i_vc (xs : Nat → Int32) (L : Nat) (hL : L ≤ 5) : wpL_law (fun r => r = 1) L xs := by
  unfold wpL_law
  refine ov_cell (k := 0) hL (by decide) (fun r1 => ?_)
  refine ov_cell (k := 1) hL (by decide) (fun r2 => ?_)
  refine ov_cell (k := 2) hL (by decide) (fun r3 => ?_)
  refine ov_cell (k := 3) hL (by decide) (fun r4 => ?_)
  refine ov_cell (k := 4) hL (by decide) (fun r5 => ?_)
  exact ⟨6, 1032, by decide, by decide, ov_lawOf rfl r1 r2 r3 r4 r5⟩
end

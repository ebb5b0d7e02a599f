set_option maxRecDepth 100000
theorem lg_cmp_self (v : Int64) : lg_cmp v v = 0 := by simp [lg_cmp]
set_option maxHeartbeats 4000000 in
theorem law_c0 {p : Program} {l : Launch} {e : Env} {s : State} {m : MethodId} {below : List Frame} {meth : Method} {c : Code} {D : va_G} {ac : Nat → ClassId} {K : KE} {G : mG} {A0 A2 : Nat → Prop} {a b bb L i : Nat} {xs : Nat → Int32} {Q : State → Prop} (C : LX p s m c D ac K G A0 A2 b bb L xs) {h h' : HS} {σ σ' : MS} {v : Int32} (ho : ∃ fs, rd K h a = some (.inr (0, fs))) (hi : i + 6 ≤ L) (z1 : fX0_feed K h a (xs (i + 1)) (xs (i + 2)) (xs (i + 3)) (xs (i + 4)) (xs (i + 5)) = some (h', v)) (z2 : fX6_feed σ (xs (i + 1)) (xs (i + 2)) (xs (i + 3)) (xs (i + 4)) (xs (i + 5)) = some (σ', v)) {H : Heap} {locs : List Loc} (hH : HR A2 D ac K h H) (hM : MW G bb σ H) (hS : va_S A0 s.heap H locs) (hz : bb + 1 + mNA ≤ H.size) {ls : Array Slot} (hl : lv_has ls 4 [(0, .ref b), (1, .ref a), (2, .ref bb), (3, .int (nI i))])
    (kk : ∀ (H1 : Heap) (locs1 : List Loc) (n : Nat), n ≤ h'.2.2 → HR A2 D ac K (h'.1, h'.2.1, n) H1 → MW G bb σ' H1 → bb + 1 + mNA ≤ H1.size → va_S A0 s.heap H1 locs1 → W p l e room_1 s m #[Value.ref b] below meth c H1 locs1 room_1.cells room_1.slots Q (F0 m 1167 ls [])) : W p l e room_1 s m #[Value.ref b] below meth c H locs room_1.cells room_1.slots Q (F0 m 188 ls []) := by
  obtain ⟨S, hG, hK, hRM, ⟨hX, hbl, hbA, hL⟩, hA, hB, hKo⟩ := C
  obtain ⟨hx, hb, hml, hown, hts⟩ := id S
  refine lv_aload_n hx hb dL_law_188 rfl (lv_at hl 1 rfl) ?_
  refine lv_aload_n hx hb dL_law_189 rfl (lv_at hl 0 rfl) ?_
  refine lv_iload_n hx hb dL_law_190 rfl (lv_at hl 3 rfl) ?_
  refine lv_iconst (v := (1 : Int32)) hx hb dL_law_191 (by decide) ?_
  refine lv_iadd hx hb dL_law_192 ?_
  refine va_sld hx hb hX hbl hbA hS (l_ix (k := 1) (by omega) hL rfl).1 dL_law_193 ?_
  rw [(l_ix (i := i) (k := 1) (L := L) (v := (1 : Int32)) (by omega) hL rfl).2]
  refine lv_aload_n hx hb dL_law_194 rfl (lv_at hl 0 rfl) ?_
  refine lv_iload_n hx hb dL_law_195 rfl (lv_at hl 3 rfl) ?_
  refine lv_iconst (v := (2 : Int32)) hx hb dL_law_196 (by decide) ?_
  refine lv_iadd hx hb dL_law_197 ?_
  refine va_sld hx hb hX hbl hbA hS (l_ix (k := 2) (by omega) hL rfl).1 dL_law_198 ?_
  rw [(l_ix (i := i) (k := 2) (L := L) (v := (2 : Int32)) (by omega) hL rfl).2]
  refine lv_aload_n hx hb dL_law_199 rfl (lv_at hl 0 rfl) ?_
  refine lv_iload_n hx hb dL_law_200 rfl (lv_at hl 3 rfl) ?_
  refine lv_iconst (v := (3 : Int32)) hx hb dL_law_201 (by decide) ?_
  refine lv_iadd hx hb dL_law_202 ?_
  refine va_sld hx hb hX hbl hbA hS (l_ix (k := 3) (by omega) hL rfl).1 dL_law_203 ?_
  rw [(l_ix (i := i) (k := 3) (L := L) (v := (3 : Int32)) (by omega) hL rfl).2]
  refine lv_aload_n hx hb dL_law_204 rfl (lv_at hl 0 rfl) ?_
  refine lv_iload_n hx hb dL_law_205 rfl (lv_at hl 3 rfl) ?_
  refine lv_iconst (v := (4 : Int32)) hx hb dL_law_206 (by decide) ?_
  refine lv_iadd hx hb dL_law_207 ?_
  refine va_sld hx hb hX hbl hbA hS (l_ix (k := 4) (by omega) hL rfl).1 dL_law_208 ?_
  rw [(l_ix (i := i) (k := 4) (L := L) (v := (4 : Int32)) (by omega) hL rfl).2]
  refine lv_aload_n hx hb dL_law_209 rfl (lv_at hl 0 rfl) ?_
  refine lv_iload_n hx hb dL_law_210 rfl (lv_at hl 3 rfl) ?_
  refine lv_iconst (v := (5 : Int32)) hx hb dL_law_211 (by decide) ?_
  refine lv_iadd hx hb dL_law_212 ?_
  refine va_sld hx hb hX hbl hbA hS (l_ix (k := 5) (by omega) hL rfl).1 dL_law_213 ?_
  rw [(l_ix (i := i) (k := 5) (L := L) (v := (5 : Int32)) (by omega) hL rfl).2]
  refine l_ci (x := (h', v)) hH hM hS hRM hA (fun q h => (hB q h).2) hz (fun _ _ f1 f2 => va_runV (b := a) (As := [.int (xs (i + 1)), .int (xs (i + 2)), .int (xs (i + 3)), .int (xs (i + 4)), .int (xs (i + 5))]) (rest := []) S (metX0_feed z1) (cwV 5 hts (lw_V q548 q549 q550 q167 q551) rfl rfl rfl (by decide +kernel) ⟨Nat.le_of_ble_eq_true rfl, Nat.le_of_ble_eq_true rfl⟩) (l_preV hG hA hH hS ho) rfl rfl hl.1 rfl (lv_room (Nat.le_of_ble_eq_true rfl)) dL_law_214 ⟨f1, f2⟩) (fun H1 locs1 hH hM hz1 hS => ?_)
  replace hz := Nat.le_trans hz hz1
  refine lv_aload_n hx hb dL_law_217 rfl (lv_at hl 2 rfl) ?_
  refine lv_aload_n hx hb dL_law_218 rfl (lv_at hl 0 rfl) ?_
  refine lv_iload_n hx hb dL_law_219 rfl (lv_at hl 3 rfl) ?_
  refine lv_iconst (v := (1 : Int32)) hx hb dL_law_220 (by decide) ?_
  refine lv_iadd hx hb dL_law_221 ?_
  refine va_sld hx hb hX hbl hbA hS (l_ix (k := 1) (by omega) hL rfl).1 dL_law_222 ?_
  rw [(l_ix (i := i) (k := 1) (L := L) (v := (1 : Int32)) (by omega) hL rfl).2]
  refine lv_aload_n hx hb dL_law_223 rfl (lv_at hl 0 rfl) ?_
  refine lv_iload_n hx hb dL_law_224 rfl (lv_at hl 3 rfl) ?_
  refine lv_iconst (v := (2 : Int32)) hx hb dL_law_225 (by decide) ?_
  refine lv_iadd hx hb dL_law_226 ?_
  refine va_sld hx hb hX hbl hbA hS (l_ix (k := 2) (by omega) hL rfl).1 dL_law_227 ?_
  rw [(l_ix (i := i) (k := 2) (L := L) (v := (2 : Int32)) (by omega) hL rfl).2]
  refine lv_aload_n hx hb dL_law_228 rfl (lv_at hl 0 rfl) ?_
  refine lv_iload_n hx hb dL_law_229 rfl (lv_at hl 3 rfl) ?_
  refine lv_iconst (v := (3 : Int32)) hx hb dL_law_230 (by decide) ?_
  refine lv_iadd hx hb dL_law_231 ?_
  refine va_sld hx hb hX hbl hbA hS (l_ix (k := 3) (by omega) hL rfl).1 dL_law_232 ?_
  rw [(l_ix (i := i) (k := 3) (L := L) (v := (3 : Int32)) (by omega) hL rfl).2]
  refine lv_aload_n hx hb dL_law_233 rfl (lv_at hl 0 rfl) ?_
  refine lv_iload_n hx hb dL_law_234 rfl (lv_at hl 3 rfl) ?_
  refine lv_iconst (v := (4 : Int32)) hx hb dL_law_235 (by decide) ?_
  refine lv_iadd hx hb dL_law_236 ?_
  refine va_sld hx hb hX hbl hbA hS (l_ix (k := 4) (by omega) hL rfl).1 dL_law_237 ?_
  rw [(l_ix (i := i) (k := 4) (L := L) (v := (4 : Int32)) (by omega) hL rfl).2]
  refine lv_aload_n hx hb dL_law_238 rfl (lv_at hl 0 rfl) ?_
  refine lv_iload_n hx hb dL_law_239 rfl (lv_at hl 3 rfl) ?_
  refine lv_iconst (v := (5 : Int32)) hx hb dL_law_240 (by decide) ?_
  refine lv_iadd hx hb dL_law_241 ?_
  refine va_sld hx hb hX hbl hbA hS (l_ix (k := 5) (by omega) hL rfl).1 dL_law_242 ?_
  rw [(l_ix (i := i) (k := 5) (L := L) (v := (5 : Int32)) (by omega) hL rfl).2]
  refine l_mi (x := (σ', v)) hH hS hRM hB hKo (fun _ _ f1 f2 => va_runV (b := bb) (As := [.int (xs (i + 1)), .int (xs (i + 2)), .int (xs (i + 3)), .int (xs (i + 4)), .int (xs (i + 5))]) (rest := [.int v]) S (metX6_feed z2) (cwV 5 hts (lw_V q2042 q2043 q2044 q179 q2045) rfl rfl rfl (by decide +kernel) ⟨Nat.le_of_ble_eq_true rfl, Nat.le_of_ble_eq_true rfl⟩) (m_preV hK hM) rfl rfl hl.1 rfl (lv_room (Nat.le_of_ble_eq_true rfl)) dL_law_243 ⟨f1, f2⟩) (fun H2 locs2 n hn hH hM hz2 hS => ?_)
  refine lv_icmp_eq (tgt := 1167) hx hb dL_law_246 (by decide) (fun _ => ?_) (fun c => absurd rfl c)
  exact kk _ _ _ hn hH hM (Nat.le_trans hz hz2) hS
set_option maxHeartbeats 4000000 in
theorem law_c1 {p : Program} {l : Launch} {e : Env} {s : State} {m : MethodId} {below : List Frame} {meth : Method} {c : Code} {D : va_G} {ac : Nat → ClassId} {K : KE} {G : mG} {A0 A2 : Nat → Prop} {a b bb L i : Nat} {xs : Nat → Int32} {Q : State → Prop} (C : LX p s m c D ac K G A0 A2 b bb L xs) {h h' : HS} {σ σ' : MS} {v : Int32} (ho : ∃ fs, rd K h a = some (.inr (0, fs))) (hi : i + 6 ≤ L) (z1 : fX0_end K h a (xs (i + 1)) = some (h', v)) (z2 : fX6_end σ (xs (i + 1)) = some (σ', v)) {H : Heap} {locs : List Loc} (hH : HR A2 D ac K h H) (hM : MW G bb σ H) (hS : va_S A0 s.heap H locs) (hz : bb + 1 + mNA ≤ H.size) {ls : Array Slot} (hl : lv_has ls 4 [(0, .ref b), (1, .ref a), (2, .ref bb), (3, .int (nI i))])
    (kk : ∀ (H1 : Heap) (locs1 : List Loc) (n : Nat), n ≤ h'.2.2 → HR A2 D ac K (h'.1, h'.2.1, n) H1 → MW G bb σ' H1 → bb + 1 + mNA ≤ H1.size → va_S A0 s.heap H1 locs1 → W p l e room_1 s m #[Value.ref b] below meth c H1 locs1 room_1.cells room_1.slots Q (F0 m 1167 ls [])) : W p l e room_1 s m #[Value.ref b] below meth c H locs room_1.cells room_1.slots Q (F0 m 251 ls []) := by
  obtain ⟨S, hG, hK, hRM, ⟨hX, hbl, hbA, hL⟩, hA, hB, hKo⟩ := C
  obtain ⟨hx, hb, hml, hown, hts⟩ := id S
  refine lv_aload_n hx hb dL_law_251 rfl (lv_at hl 1 rfl) ?_
  refine lv_aload_n hx hb dL_law_252 rfl (lv_at hl 0 rfl) ?_
  refine lv_iload_n hx hb dL_law_253 rfl (lv_at hl 3 rfl) ?_
  refine lv_iconst (v := (1 : Int32)) hx hb dL_law_254 (by decide) ?_
  refine lv_iadd hx hb dL_law_255 ?_
  refine va_sld hx hb hX hbl hbA hS (l_ix (k := 1) (by omega) hL rfl).1 dL_law_256 ?_
  rw [(l_ix (i := i) (k := 1) (L := L) (v := (1 : Int32)) (by omega) hL rfl).2]
  refine l_ci (x := (h', v)) hH hM hS hRM hA (fun q h => (hB q h).2) hz (fun _ _ f1 f2 => va_runV (b := a) (As := [.int (xs (i + 1))]) (rest := []) S (metX0_end z1) (cwV 1 hts (lw_V q560 q561 q562 q167 q563) rfl rfl rfl (by decide +kernel) ⟨Nat.le_of_ble_eq_true rfl, Nat.le_of_ble_eq_true rfl⟩) (l_preV hG hA hH hS ho) rfl rfl hl.1 rfl (lv_room (Nat.le_of_ble_eq_true rfl)) dL_law_257 ⟨f1, f2⟩) (fun H1 locs1 hH hM hz1 hS => ?_)
  replace hz := Nat.le_trans hz hz1
  refine lv_aload_n hx hb dL_law_260 rfl (lv_at hl 2 rfl) ?_
  refine lv_aload_n hx hb dL_law_261 rfl (lv_at hl 0 rfl) ?_
  refine lv_iload_n hx hb dL_law_262 rfl (lv_at hl 3 rfl) ?_
  refine lv_iconst (v := (1 : Int32)) hx hb dL_law_263 (by decide) ?_
  refine lv_iadd hx hb dL_law_264 ?_
  refine va_sld hx hb hX hbl hbA hS (l_ix (k := 1) (by omega) hL rfl).1 dL_law_265 ?_
  rw [(l_ix (i := i) (k := 1) (L := L) (v := (1 : Int32)) (by omega) hL rfl).2]
  refine l_mi (x := (σ', v)) hH hS hRM hB hKo (fun _ _ f1 f2 => va_runV (b := bb) (As := [.int (xs (i + 1))]) (rest := [.int v]) S (metX6_end z2) (cwV 1 hts (lw_V q2046 q2047 q2048 q179 q2049) rfl rfl rfl (by decide +kernel) ⟨Nat.le_of_ble_eq_true rfl, Nat.le_of_ble_eq_true rfl⟩) (m_preV hK hM) rfl rfl hl.1 rfl (lv_room (Nat.le_of_ble_eq_true rfl)) dL_law_266 ⟨f1, f2⟩) (fun H2 locs2 n hn hH hM hz2 hS => ?_)
  refine lv_icmp_eq (tgt := 1167) hx hb dL_law_269 (by decide) (fun _ => ?_) (fun c => absurd rfl c)
  exact kk _ _ _ hn hH hM (Nat.le_trans hz hz2) hS
set_option maxHeartbeats 4000000 in
theorem law_c2 {p : Program} {l : Launch} {e : Env} {s : State} {m : MethodId} {below : List Frame} {meth : Method} {c : Code} {D : va_G} {ac : Nat → ClassId} {K : KE} {G : mG} {A0 A2 : Nat → Prop} {a b bb L i : Nat} {xs : Nat → Int32} {Q : State → Prop} (C : LX p s m c D ac K G A0 A2 b bb L xs) {h h' : HS} {σ σ' : MS} {v : Int32} (ho : ∃ fs, rd K h a = some (.inr (0, fs))) (hi : i + 6 ≤ L) (z1 : fX0_house K h a = some (h', v)) (z2 : fX6_house σ = some (σ', v)) {H : Heap} {locs : List Loc} (hH : HR A2 D ac K h H) (hM : MW G bb σ H) (hS : va_S A0 s.heap H locs) (hz : bb + 1 + mNA ≤ H.size) {ls : Array Slot} (hl : lv_has ls 4 [(0, .ref b), (1, .ref a), (2, .ref bb), (3, .int (nI i))])
    (kk : ∀ (H1 : Heap) (locs1 : List Loc) (n : Nat), n ≤ h'.2.2 → HR A2 D ac K (h'.1, h'.2.1, n) H1 → MW G bb σ' H1 → bb + 1 + mNA ≤ H1.size → va_S A0 s.heap H1 locs1 → W p l e room_1 s m #[Value.ref b] below meth c H1 locs1 room_1.cells room_1.slots Q (F0 m 1167 ls [])) : W p l e room_1 s m #[Value.ref b] below meth c H locs room_1.cells room_1.slots Q (F0 m 274 ls []) := by
  obtain ⟨S, hG, hK, hRM, ⟨hX, hbl, hbA, hL⟩, hA, hB, hKo⟩ := C
  obtain ⟨hx, hb, hml, hown, hts⟩ := id S
  refine lv_aload_n hx hb dL_law_274 rfl (lv_at hl 1 rfl) ?_
  refine l_ci (x := (h', v)) hH hM hS hRM hA (fun q h => (hB q h).2) hz (fun _ _ f1 f2 => vx_runVW (b := a) (As := []) (rest := []) S (metX0_house z1) (vx_cwVW 0 hts (lw_VW q564 q565 q566 q167 q567) rfl rfl rfl (by decide +kernel) ⟨Nat.le_of_ble_eq_true rfl, Nat.le_of_ble_eq_true rfl⟩) (l_preV hG hA hH hS ho) rfl rfl hl.1 rfl (lv_room (Nat.le_of_ble_eq_true rfl)) dL_law_275 ⟨f1, f2⟩) (fun H1 locs1 hH hM hz1 hS => ?_)
  replace hz := Nat.le_trans hz hz1
  refine lv_aload_n hx hb dL_law_278 rfl (lv_at hl 2 rfl) ?_
  refine l_mi (x := (σ', v)) hH hS hRM hB hKo (fun _ _ f1 f2 => va_runV (b := bb) (As := []) (rest := [.int v]) S (metX6_house z2) (cwV 0 hts (lw_V q2050 q2051 q2052 q179 q2053) rfl rfl rfl (by decide +kernel) ⟨Nat.le_of_ble_eq_true rfl, Nat.le_of_ble_eq_true rfl⟩) (m_preV hK hM) rfl rfl hl.1 rfl (lv_room (Nat.le_of_ble_eq_true rfl)) dL_law_279 ⟨f1, f2⟩) (fun H2 locs2 n hn hH hM hz2 hS => ?_)
  refine lv_icmp_eq (tgt := 1167) hx hb dL_law_282 (by decide) (fun _ => ?_) (fun c => absurd rfl c)
  exact kk _ _ _ hn hH hM (Nat.le_trans hz hz2) hS
set_option maxHeartbeats 4000000 in
theorem law_c3 {p : Program} {l : Launch} {e : Env} {s : State} {m : MethodId} {below : List Frame} {meth : Method} {c : Code} {D : va_G} {ac : Nat → ClassId} {K : KE} {G : mG} {A0 A2 : Nat → Prop} {a b bb L i : Nat} {xs : Nat → Int32} {Q : State → Prop} (C : LX p s m c D ac K G A0 A2 b bb L xs) {h : HS} {σ : MS} {v : Int32} (ho : ∃ fs, rd K h a = some (.inr (0, fs))) (hi : i + 6 ≤ L) (z1 : fX0_fault K h a (xs (i + 1)) = some v) (z2 : fX6_fault σ (xs (i + 1)) = some v) {H : Heap} {locs : List Loc} (hH : HR A2 D ac K h H) (hM : MW G bb σ H) (hS : va_S A0 s.heap H locs) (hz : bb + 1 + mNA ≤ H.size) {ls : Array Slot} (hl : lv_has ls 4 [(0, .ref b), (1, .ref a), (2, .ref bb), (3, .int (nI i))])
    (kk : ∀ (H1 : Heap) (locs1 : List Loc) (n : Nat), n ≤ h.2.2 → HR A2 D ac K (h.1, h.2.1, n) H1 → MW G bb σ H1 → bb + 1 + mNA ≤ H1.size → va_S A0 s.heap H1 locs1 → W p l e room_1 s m #[Value.ref b] below meth c H1 locs1 room_1.cells room_1.slots Q (F0 m 1167 ls [])) : W p l e room_1 s m #[Value.ref b] below meth c H locs room_1.cells room_1.slots Q (F0 m 287 ls []) := by
  obtain ⟨S, hG, hK, hRM, ⟨hX, hbl, hbA, hL⟩, hA, hB, hKo⟩ := C
  obtain ⟨hx, hb, hml, hown, hts⟩ := id S
  refine lv_aload_n hx hb dL_law_287 rfl (lv_at hl 1 rfl) ?_
  refine lv_aload_n hx hb dL_law_288 rfl (lv_at hl 0 rfl) ?_
  refine lv_iload_n hx hb dL_law_289 rfl (lv_at hl 3 rfl) ?_
  refine lv_iconst (v := (1 : Int32)) hx hb dL_law_290 (by decide) ?_
  refine lv_iadd hx hb dL_law_291 ?_
  refine va_sld hx hb hX hbl hbA hS (l_ix (k := 1) (by omega) hL rfl).1 dL_law_292 ?_
  rw [(l_ix (i := i) (k := 1) (L := L) (v := (1 : Int32)) (by omega) hL rfl).2]
  refine l_ci (x := (h, v)) hH hM hS hRM hA (fun q h => (hB q h).2) hz (fun _ _ f1 f2 => va_runV (b := a) (As := [.int (xs (i + 1))]) (rest := []) S (metX0_fault z1) (cwV 1 hts (lw_V q1260 q1261 q1262 q167 q1263) rfl rfl rfl (by decide +kernel) ⟨Nat.le_of_ble_eq_true rfl, Nat.le_of_ble_eq_true rfl⟩) (l_preV hG hA hH hS ho) rfl rfl hl.1 rfl (lv_room (Nat.le_of_ble_eq_true rfl)) dL_law_293 ⟨f1, f2⟩) (fun H1 locs1 hH hM hz1 hS => ?_)
  replace hz := Nat.le_trans hz hz1
  refine lv_aload_n hx hb dL_law_296 rfl (lv_at hl 2 rfl) ?_
  refine lv_aload_n hx hb dL_law_297 rfl (lv_at hl 0 rfl) ?_
  refine lv_iload_n hx hb dL_law_298 rfl (lv_at hl 3 rfl) ?_
  refine lv_iconst (v := (1 : Int32)) hx hb dL_law_299 (by decide) ?_
  refine lv_iadd hx hb dL_law_300 ?_
  refine va_sld hx hb hX hbl hbA hS (l_ix (k := 1) (by omega) hL rfl).1 dL_law_301 ?_
  rw [(l_ix (i := i) (k := 1) (L := L) (v := (1 : Int32)) (by omega) hL rfl).2]
  refine l_mi (x := (σ, v)) hH hS hRM hB hKo (fun _ _ f1 f2 => va_runV (b := bb) (As := [.int (xs (i + 1))]) (rest := [.int v]) S (metX6_fault z2) (cwV 1 hts (lw_V q2246 q2247 q2248 q179 q2249) rfl rfl rfl (by decide +kernel) ⟨Nat.le_of_ble_eq_true rfl, Nat.le_of_ble_eq_true rfl⟩) (m_preV hK hM) rfl rfl hl.1 rfl (lv_room (Nat.le_of_ble_eq_true rfl)) dL_law_302 ⟨f1, f2⟩) (fun H2 locs2 n hn hH hM hz2 hS => ?_)
  refine lv_icmp_eq (tgt := 1167) hx hb dL_law_305 (by decide) (fun _ => ?_) (fun c => absurd rfl c)
  exact kk _ _ _ hn hH hM (Nat.le_trans hz hz2) hS
set_option maxHeartbeats 4000000 in
theorem law_c4 {p : Program} {l : Launch} {e : Env} {s : State} {m : MethodId} {below : List Frame} {meth : Method} {c : Code} {D : va_G} {ac : Nat → ClassId} {K : KE} {G : mG} {A0 A2 : Nat → Prop} {a b bb L i : Nat} {xs : Nat → Int32} {Q : State → Prop} (C : LX p s m c D ac K G A0 A2 b bb L xs) {h : HS} {σ : MS} {v : Int32} (ho : ∃ fs, rd K h a = some (.inr (0, fs))) (hi : i + 6 ≤ L) (z1 : fX0_has_2 K h a (xs (i + 1)) = some v) (z2 : fX6_has σ (xs (i + 1)) = some v) {H : Heap} {locs : List Loc} (hH : HR A2 D ac K h H) (hM : MW G bb σ H) (hS : va_S A0 s.heap H locs) (hz : bb + 1 + mNA ≤ H.size) {ls : Array Slot} (hl : lv_has ls 4 [(0, .ref b), (1, .ref a), (2, .ref bb), (3, .int (nI i))])
    (kk : ∀ (H1 : Heap) (locs1 : List Loc) (n : Nat), n ≤ h.2.2 → HR A2 D ac K (h.1, h.2.1, n) H1 → MW G bb σ H1 → bb + 1 + mNA ≤ H1.size → va_S A0 s.heap H1 locs1 → W p l e room_1 s m #[Value.ref b] below meth c H1 locs1 room_1.cells room_1.slots Q (F0 m 1167 ls [])) : W p l e room_1 s m #[Value.ref b] below meth c H locs room_1.cells room_1.slots Q (F0 m 310 ls []) := by
  obtain ⟨S, hG, hK, hRM, ⟨hX, hbl, hbA, hL⟩, hA, hB, hKo⟩ := C
  obtain ⟨hx, hb, hml, hown, hts⟩ := id S
  refine lv_aload_n hx hb dL_law_310 rfl (lv_at hl 1 rfl) ?_
  refine lv_aload_n hx hb dL_law_311 rfl (lv_at hl 0 rfl) ?_
  refine lv_iload_n hx hb dL_law_312 rfl (lv_at hl 3 rfl) ?_
  refine lv_iconst (v := (1 : Int32)) hx hb dL_law_313 (by decide) ?_
  refine lv_iadd hx hb dL_law_314 ?_
  refine va_sld hx hb hX hbl hbA hS (l_ix (k := 1) (by omega) hL rfl).1 dL_law_315 ?_
  rw [(l_ix (i := i) (k := 1) (L := L) (v := (1 : Int32)) (by omega) hL rfl).2]
  refine l_ci (x := (h, v)) hH hM hS hRM hA (fun q h => (hB q h).2) hz (fun _ _ f1 f2 => va_runV (b := a) (As := [.int (xs (i + 1))]) (rest := []) S (metX0_has_2 z1) (cwV 1 hts (lw_V q1264 q1265 q1266 q167 q1267) rfl rfl rfl (by decide +kernel) ⟨Nat.le_of_ble_eq_true rfl, Nat.le_of_ble_eq_true rfl⟩) (l_preV hG hA hH hS ho) rfl rfl hl.1 rfl (lv_room (Nat.le_of_ble_eq_true rfl)) dL_law_316 ⟨f1, f2⟩) (fun H1 locs1 hH hM hz1 hS => ?_)
  replace hz := Nat.le_trans hz hz1
  refine lv_aload_n hx hb dL_law_319 rfl (lv_at hl 2 rfl) ?_
  refine lv_aload_n hx hb dL_law_320 rfl (lv_at hl 0 rfl) ?_
  refine lv_iload_n hx hb dL_law_321 rfl (lv_at hl 3 rfl) ?_
  refine lv_iconst (v := (1 : Int32)) hx hb dL_law_322 (by decide) ?_
  refine lv_iadd hx hb dL_law_323 ?_
  refine va_sld hx hb hX hbl hbA hS (l_ix (k := 1) (by omega) hL rfl).1 dL_law_324 ?_
  rw [(l_ix (i := i) (k := 1) (L := L) (v := (1 : Int32)) (by omega) hL rfl).2]
  refine l_mi (x := (σ, v)) hH hS hRM hB hKo (fun _ _ f1 f2 => va_runV (b := bb) (As := [.int (xs (i + 1))]) (rest := [.int v]) S (metX6_has z2) (cwV 1 hts (lw_V q2250 q2251 q2252 q179 q2253) rfl rfl rfl (by decide +kernel) ⟨Nat.le_of_ble_eq_true rfl, Nat.le_of_ble_eq_true rfl⟩) (m_preV hK hM) rfl rfl hl.1 rfl (lv_room (Nat.le_of_ble_eq_true rfl)) dL_law_325 ⟨f1, f2⟩) (fun H2 locs2 n hn hH hM hz2 hS => ?_)
  refine lv_icmp_eq (tgt := 1167) hx hb dL_law_328 (by decide) (fun _ => ?_) (fun c => absurd rfl c)
  exact kk _ _ _ hn hH hM (Nat.le_trans hz hz2) hS
set_option maxHeartbeats 4000000 in
theorem law_c5 {p : Program} {l : Launch} {e : Env} {s : State} {m : MethodId} {below : List Frame} {meth : Method} {c : Code} {D : va_G} {ac : Nat → ClassId} {K : KE} {G : mG} {A0 A2 : Nat → Prop} {a b bb L i : Nat} {xs : Nat → Int32} {Q : State → Prop} (C : LX p s m c D ac K G A0 A2 b bb L xs) {h : HS} {σ : MS} {v : Int32} (ho : ∃ fs, rd K h a = some (.inr (0, fs))) (hi : i + 6 ≤ L) (z1 : fX0_letter K h a (xs (i + 1)) (xs (i + 2)) (xs (i + 3)) = some v) (z2 : fX6_letter σ (xs (i + 1)) (xs (i + 2)) (xs (i + 3)) = some v) {H : Heap} {locs : List Loc} (hH : HR A2 D ac K h H) (hM : MW G bb σ H) (hS : va_S A0 s.heap H locs) (hz : bb + 1 + mNA ≤ H.size) {ls : Array Slot} (hl : lv_has ls 4 [(0, .ref b), (1, .ref a), (2, .ref bb), (3, .int (nI i))])
    (kk : ∀ (H1 : Heap) (locs1 : List Loc) (n : Nat), n ≤ h.2.2 → HR A2 D ac K (h.1, h.2.1, n) H1 → MW G bb σ H1 → bb + 1 + mNA ≤ H1.size → va_S A0 s.heap H1 locs1 → W p l e room_1 s m #[Value.ref b] below meth c H1 locs1 room_1.cells room_1.slots Q (F0 m 1167 ls [])) : W p l e room_1 s m #[Value.ref b] below meth c H locs room_1.cells room_1.slots Q (F0 m 333 ls []) := by
  obtain ⟨S, hG, hK, hRM, ⟨hX, hbl, hbA, hL⟩, hA, hB, hKo⟩ := C
  obtain ⟨hx, hb, hml, hown, hts⟩ := id S
  refine lv_aload_n hx hb dL_law_333 rfl (lv_at hl 1 rfl) ?_
  refine lv_aload_n hx hb dL_law_334 rfl (lv_at hl 0 rfl) ?_
  refine lv_iload_n hx hb dL_law_335 rfl (lv_at hl 3 rfl) ?_
  refine lv_iconst (v := (1 : Int32)) hx hb dL_law_336 (by decide) ?_
  refine lv_iadd hx hb dL_law_337 ?_
  refine va_sld hx hb hX hbl hbA hS (l_ix (k := 1) (by omega) hL rfl).1 dL_law_338 ?_
  rw [(l_ix (i := i) (k := 1) (L := L) (v := (1 : Int32)) (by omega) hL rfl).2]
  refine lv_aload_n hx hb dL_law_339 rfl (lv_at hl 0 rfl) ?_
  refine lv_iload_n hx hb dL_law_340 rfl (lv_at hl 3 rfl) ?_
  refine lv_iconst (v := (2 : Int32)) hx hb dL_law_341 (by decide) ?_
  refine lv_iadd hx hb dL_law_342 ?_
  refine va_sld hx hb hX hbl hbA hS (l_ix (k := 2) (by omega) hL rfl).1 dL_law_343 ?_
  rw [(l_ix (i := i) (k := 2) (L := L) (v := (2 : Int32)) (by omega) hL rfl).2]
  refine lv_aload_n hx hb dL_law_344 rfl (lv_at hl 0 rfl) ?_
  refine lv_iload_n hx hb dL_law_345 rfl (lv_at hl 3 rfl) ?_
  refine lv_iconst (v := (3 : Int32)) hx hb dL_law_346 (by decide) ?_
  refine lv_iadd hx hb dL_law_347 ?_
  refine va_sld hx hb hX hbl hbA hS (l_ix (k := 3) (by omega) hL rfl).1 dL_law_348 ?_
  rw [(l_ix (i := i) (k := 3) (L := L) (v := (3 : Int32)) (by omega) hL rfl).2]
  refine l_ci (x := (h, v)) hH hM hS hRM hA (fun q h => (hB q h).2) hz (fun _ _ f1 f2 => va_runV (b := a) (As := [.int (xs (i + 1)), .int (xs (i + 2)), .int (xs (i + 3))]) (rest := []) S (metX0_letter z1) (cwV 3 hts (lw_V q1292 q1293 q1294 q167 q1295) rfl rfl rfl (by decide +kernel) ⟨Nat.le_of_ble_eq_true rfl, Nat.le_of_ble_eq_true rfl⟩) (l_preV hG hA hH hS ho) rfl rfl hl.1 rfl (lv_room (Nat.le_of_ble_eq_true rfl)) dL_law_349 ⟨f1, f2⟩) (fun H1 locs1 hH hM hz1 hS => ?_)
  replace hz := Nat.le_trans hz hz1
  refine lv_aload_n hx hb dL_law_352 rfl (lv_at hl 2 rfl) ?_
  refine lv_aload_n hx hb dL_law_353 rfl (lv_at hl 0 rfl) ?_
  refine lv_iload_n hx hb dL_law_354 rfl (lv_at hl 3 rfl) ?_
  refine lv_iconst (v := (1 : Int32)) hx hb dL_law_355 (by decide) ?_
  refine lv_iadd hx hb dL_law_356 ?_
  refine va_sld hx hb hX hbl hbA hS (l_ix (k := 1) (by omega) hL rfl).1 dL_law_357 ?_
  rw [(l_ix (i := i) (k := 1) (L := L) (v := (1 : Int32)) (by omega) hL rfl).2]
  refine lv_aload_n hx hb dL_law_358 rfl (lv_at hl 0 rfl) ?_
  refine lv_iload_n hx hb dL_law_359 rfl (lv_at hl 3 rfl) ?_
  refine lv_iconst (v := (2 : Int32)) hx hb dL_law_360 (by decide) ?_
  refine lv_iadd hx hb dL_law_361 ?_
  refine va_sld hx hb hX hbl hbA hS (l_ix (k := 2) (by omega) hL rfl).1 dL_law_362 ?_
  rw [(l_ix (i := i) (k := 2) (L := L) (v := (2 : Int32)) (by omega) hL rfl).2]
  refine lv_aload_n hx hb dL_law_363 rfl (lv_at hl 0 rfl) ?_
  refine lv_iload_n hx hb dL_law_364 rfl (lv_at hl 3 rfl) ?_
  refine lv_iconst (v := (3 : Int32)) hx hb dL_law_365 (by decide) ?_
  refine lv_iadd hx hb dL_law_366 ?_
  refine va_sld hx hb hX hbl hbA hS (l_ix (k := 3) (by omega) hL rfl).1 dL_law_367 ?_
  rw [(l_ix (i := i) (k := 3) (L := L) (v := (3 : Int32)) (by omega) hL rfl).2]
  refine l_mi (x := (σ, v)) hH hS hRM hB hKo (fun _ _ f1 f2 => va_runV (b := bb) (As := [.int (xs (i + 1)), .int (xs (i + 2)), .int (xs (i + 3))]) (rest := [.int v]) S (metX6_letter z2) (cwV 3 hts (lw_V q2273 q2274 q2275 q179 q2276) rfl rfl rfl (by decide +kernel) ⟨Nat.le_of_ble_eq_true rfl, Nat.le_of_ble_eq_true rfl⟩) (m_preV hK hM) rfl rfl hl.1 rfl (lv_room (Nat.le_of_ble_eq_true rfl)) dL_law_368 ⟨f1, f2⟩) (fun H2 locs2 n hn hH hM hz2 hS => ?_)
  refine lv_icmp_eq (tgt := 1167) hx hb dL_law_371 (by decide) (fun _ => ?_) (fun c => absurd rfl c)
  exact kk _ _ _ hn hH hM (Nat.le_trans hz hz2) hS
set_option maxHeartbeats 4000000 in
theorem law_c6 {p : Program} {l : Launch} {e : Env} {s : State} {m : MethodId} {below : List Frame} {meth : Method} {c : Code} {D : va_G} {ac : Nat → ClassId} {K : KE} {G : mG} {A0 A2 : Nat → Prop} {a b bb L i : Nat} {xs : Nat → Int32} {Q : State → Prop} (C : LX p s m c D ac K G A0 A2 b bb L xs) {h : HS} {σ : MS} {v : Int32} (ho : ∃ fs, rd K h a = some (.inr (0, fs))) (hi : i + 6 ≤ L) (z1 : fX0_film K h a (xs (i + 1)) (xs (i + 2)) = some v) (z2 : fX6_film σ (xs (i + 1)) (xs (i + 2)) = some v) {H : Heap} {locs : List Loc} (hH : HR A2 D ac K h H) (hM : MW G bb σ H) (hS : va_S A0 s.heap H locs) (hz : bb + 1 + mNA ≤ H.size) {ls : Array Slot} (hl : lv_has ls 4 [(0, .ref b), (1, .ref a), (2, .ref bb), (3, .int (nI i))])
    (kk : ∀ (H1 : Heap) (locs1 : List Loc) (n : Nat), n ≤ h.2.2 → HR A2 D ac K (h.1, h.2.1, n) H1 → MW G bb σ H1 → bb + 1 + mNA ≤ H1.size → va_S A0 s.heap H1 locs1 → W p l e room_1 s m #[Value.ref b] below meth c H1 locs1 room_1.cells room_1.slots Q (F0 m 1167 ls [])) : W p l e room_1 s m #[Value.ref b] below meth c H locs room_1.cells room_1.slots Q (F0 m 376 ls []) := by
  obtain ⟨S, hG, hK, hRM, ⟨hX, hbl, hbA, hL⟩, hA, hB, hKo⟩ := C
  obtain ⟨hx, hb, hml, hown, hts⟩ := id S
  refine lv_aload_n hx hb dL_law_376 rfl (lv_at hl 1 rfl) ?_
  refine lv_aload_n hx hb dL_law_377 rfl (lv_at hl 0 rfl) ?_
  refine lv_iload_n hx hb dL_law_378 rfl (lv_at hl 3 rfl) ?_
  refine lv_iconst (v := (1 : Int32)) hx hb dL_law_379 (by decide) ?_
  refine lv_iadd hx hb dL_law_380 ?_
  refine va_sld hx hb hX hbl hbA hS (l_ix (k := 1) (by omega) hL rfl).1 dL_law_381 ?_
  rw [(l_ix (i := i) (k := 1) (L := L) (v := (1 : Int32)) (by omega) hL rfl).2]
  refine lv_aload_n hx hb dL_law_382 rfl (lv_at hl 0 rfl) ?_
  refine lv_iload_n hx hb dL_law_383 rfl (lv_at hl 3 rfl) ?_
  refine lv_iconst (v := (2 : Int32)) hx hb dL_law_384 (by decide) ?_
  refine lv_iadd hx hb dL_law_385 ?_
  refine va_sld hx hb hX hbl hbA hS (l_ix (k := 2) (by omega) hL rfl).1 dL_law_386 ?_
  rw [(l_ix (i := i) (k := 2) (L := L) (v := (2 : Int32)) (by omega) hL rfl).2]
  refine l_ci (x := (h, v)) hH hM hS hRM hA (fun q h => (hB q h).2) hz (fun _ _ f1 f2 => va_runV (b := a) (As := [.int (xs (i + 1)), .int (xs (i + 2))]) (rest := []) S (metX0_film z1) (cwV 2 hts (lw_V q1319 q1320 q1321 q167 q1322) rfl rfl rfl (by decide +kernel) ⟨Nat.le_of_ble_eq_true rfl, Nat.le_of_ble_eq_true rfl⟩) (l_preV hG hA hH hS ho) rfl rfl hl.1 rfl (lv_room (Nat.le_of_ble_eq_true rfl)) dL_law_387 ⟨f1, f2⟩) (fun H1 locs1 hH hM hz1 hS => ?_)
  replace hz := Nat.le_trans hz hz1
  refine lv_aload_n hx hb dL_law_390 rfl (lv_at hl 2 rfl) ?_
  refine lv_aload_n hx hb dL_law_391 rfl (lv_at hl 0 rfl) ?_
  refine lv_iload_n hx hb dL_law_392 rfl (lv_at hl 3 rfl) ?_
  refine lv_iconst (v := (1 : Int32)) hx hb dL_law_393 (by decide) ?_
  refine lv_iadd hx hb dL_law_394 ?_
  refine va_sld hx hb hX hbl hbA hS (l_ix (k := 1) (by omega) hL rfl).1 dL_law_395 ?_
  rw [(l_ix (i := i) (k := 1) (L := L) (v := (1 : Int32)) (by omega) hL rfl).2]
  refine lv_aload_n hx hb dL_law_396 rfl (lv_at hl 0 rfl) ?_
  refine lv_iload_n hx hb dL_law_397 rfl (lv_at hl 3 rfl) ?_
  refine lv_iconst (v := (2 : Int32)) hx hb dL_law_398 (by decide) ?_
  refine lv_iadd hx hb dL_law_399 ?_
  refine va_sld hx hb hX hbl hbA hS (l_ix (k := 2) (by omega) hL rfl).1 dL_law_400 ?_
  rw [(l_ix (i := i) (k := 2) (L := L) (v := (2 : Int32)) (by omega) hL rfl).2]
  refine l_mi (x := (σ, v)) hH hS hRM hB hKo (fun _ _ f1 f2 => va_runV (b := bb) (As := [.int (xs (i + 1)), .int (xs (i + 2))]) (rest := [.int v]) S (metX6_film z2) (cwV 2 hts (lw_V q2278 q2279 q2280 q179 q2281) rfl rfl rfl (by decide +kernel) ⟨Nat.le_of_ble_eq_true rfl, Nat.le_of_ble_eq_true rfl⟩) (m_preV hK hM) rfl rfl hl.1 rfl (lv_room (Nat.le_of_ble_eq_true rfl)) dL_law_401 ⟨f1, f2⟩) (fun H2 locs2 n hn hH hM hz2 hS => ?_)
  refine lv_icmp_eq (tgt := 1167) hx hb dL_law_404 (by decide) (fun _ => ?_) (fun c => absurd rfl c)
  exact kk _ _ _ hn hH hM (Nat.le_trans hz hz2) hS
set_option maxHeartbeats 4000000 in
theorem law_c7 {p : Program} {l : Launch} {e : Env} {s : State} {m : MethodId} {below : List Frame} {meth : Method} {c : Code} {D : va_G} {ac : Nat → ClassId} {K : KE} {G : mG} {A0 A2 : Nat → Prop} {a b bb L i : Nat} {xs : Nat → Int32} {Q : State → Prop} (C : LX p s m c D ac K G A0 A2 b bb L xs) {h : HS} {σ : MS} {v : Int32} (ho : ∃ fs, rd K h a = some (.inr (0, fs))) (hi : i + 6 ≤ L) (z1 : fX0_person K h a (xs (i + 1)) (xs (i + 2)) = some v) (z2 : fX6_person σ (xs (i + 1)) (xs (i + 2)) = some v) {H : Heap} {locs : List Loc} (hH : HR A2 D ac K h H) (hM : MW G bb σ H) (hS : va_S A0 s.heap H locs) (hz : bb + 1 + mNA ≤ H.size) {ls : Array Slot} (hl : lv_has ls 4 [(0, .ref b), (1, .ref a), (2, .ref bb), (3, .int (nI i))])
    (kk : ∀ (H1 : Heap) (locs1 : List Loc) (n : Nat), n ≤ h.2.2 → HR A2 D ac K (h.1, h.2.1, n) H1 → MW G bb σ H1 → bb + 1 + mNA ≤ H1.size → va_S A0 s.heap H1 locs1 → W p l e room_1 s m #[Value.ref b] below meth c H1 locs1 room_1.cells room_1.slots Q (F0 m 1167 ls [])) : W p l e room_1 s m #[Value.ref b] below meth c H locs room_1.cells room_1.slots Q (F0 m 409 ls []) := by
  obtain ⟨S, hG, hK, hRM, ⟨hX, hbl, hbA, hL⟩, hA, hB, hKo⟩ := C
  obtain ⟨hx, hb, hml, hown, hts⟩ := id S
  refine lv_aload_n hx hb dL_law_409 rfl (lv_at hl 1 rfl) ?_
  refine lv_aload_n hx hb dL_law_410 rfl (lv_at hl 0 rfl) ?_
  refine lv_iload_n hx hb dL_law_411 rfl (lv_at hl 3 rfl) ?_
  refine lv_iconst (v := (1 : Int32)) hx hb dL_law_412 (by decide) ?_
  refine lv_iadd hx hb dL_law_413 ?_
  refine va_sld hx hb hX hbl hbA hS (l_ix (k := 1) (by omega) hL rfl).1 dL_law_414 ?_
  rw [(l_ix (i := i) (k := 1) (L := L) (v := (1 : Int32)) (by omega) hL rfl).2]
  refine lv_aload_n hx hb dL_law_415 rfl (lv_at hl 0 rfl) ?_
  refine lv_iload_n hx hb dL_law_416 rfl (lv_at hl 3 rfl) ?_
  refine lv_iconst (v := (2 : Int32)) hx hb dL_law_417 (by decide) ?_
  refine lv_iadd hx hb dL_law_418 ?_
  refine va_sld hx hb hX hbl hbA hS (l_ix (k := 2) (by omega) hL rfl).1 dL_law_419 ?_
  rw [(l_ix (i := i) (k := 2) (L := L) (v := (2 : Int32)) (by omega) hL rfl).2]
  refine l_ci (x := (h, v)) hH hM hS hRM hA (fun q h => (hB q h).2) hz (fun _ _ f1 f2 => va_runV (b := a) (As := [.int (xs (i + 1)), .int (xs (i + 2))]) (rest := []) S (metX0_person z1) (cwV 2 hts (lw_V q1336 q1337 q1338 q167 q1339) rfl rfl rfl (by decide +kernel) ⟨Nat.le_of_ble_eq_true rfl, Nat.le_of_ble_eq_true rfl⟩) (l_preV hG hA hH hS ho) rfl rfl hl.1 rfl (lv_room (Nat.le_of_ble_eq_true rfl)) dL_law_420 ⟨f1, f2⟩) (fun H1 locs1 hH hM hz1 hS => ?_)
  replace hz := Nat.le_trans hz hz1
  refine lv_aload_n hx hb dL_law_423 rfl (lv_at hl 2 rfl) ?_
  refine lv_aload_n hx hb dL_law_424 rfl (lv_at hl 0 rfl) ?_
  refine lv_iload_n hx hb dL_law_425 rfl (lv_at hl 3 rfl) ?_
  refine lv_iconst (v := (1 : Int32)) hx hb dL_law_426 (by decide) ?_
  refine lv_iadd hx hb dL_law_427 ?_
  refine va_sld hx hb hX hbl hbA hS (l_ix (k := 1) (by omega) hL rfl).1 dL_law_428 ?_
  rw [(l_ix (i := i) (k := 1) (L := L) (v := (1 : Int32)) (by omega) hL rfl).2]
  refine lv_aload_n hx hb dL_law_429 rfl (lv_at hl 0 rfl) ?_
  refine lv_iload_n hx hb dL_law_430 rfl (lv_at hl 3 rfl) ?_
  refine lv_iconst (v := (2 : Int32)) hx hb dL_law_431 (by decide) ?_
  refine lv_iadd hx hb dL_law_432 ?_
  refine va_sld hx hb hX hbl hbA hS (l_ix (k := 2) (by omega) hL rfl).1 dL_law_433 ?_
  rw [(l_ix (i := i) (k := 2) (L := L) (v := (2 : Int32)) (by omega) hL rfl).2]
  refine l_mi (x := (σ, v)) hH hS hRM hB hKo (fun _ _ f1 f2 => va_runV (b := bb) (As := [.int (xs (i + 1)), .int (xs (i + 2))]) (rest := [.int v]) S (metX6_person z2) (cwV 2 hts (lw_V q2306 q2307 q2308 q179 q2309) rfl rfl rfl (by decide +kernel) ⟨Nat.le_of_ble_eq_true rfl, Nat.le_of_ble_eq_true rfl⟩) (m_preV hK hM) rfl rfl hl.1 rfl (lv_room (Nat.le_of_ble_eq_true rfl)) dL_law_434 ⟨f1, f2⟩) (fun H2 locs2 n hn hH hM hz2 hS => ?_)
  refine lv_icmp_eq (tgt := 1167) hx hb dL_law_437 (by decide) (fun _ => ?_) (fun c => absurd rfl c)
  exact kk _ _ _ hn hH hM (Nat.le_trans hz hz2) hS
set_option maxHeartbeats 4000000 in
theorem law_c8 {p : Program} {l : Launch} {e : Env} {s : State} {m : MethodId} {below : List Frame} {meth : Method} {c : Code} {D : va_G} {ac : Nat → ClassId} {K : KE} {G : mG} {A0 A2 : Nat → Prop} {a b bb L i : Nat} {xs : Nat → Int32} {Q : State → Prop} (C : LX p s m c D ac K G A0 A2 b bb L xs) {h : HS} {σ : MS} {v : Int32} (ho : ∃ fs, rd K h a = some (.inr (0, fs))) (hi : i + 6 ≤ L) (z1 : fX0_taste K h a (xs (i + 1)) (xs (i + 2)) = some v) (z2 : fX6_taste σ (xs (i + 1)) (xs (i + 2)) = some v) {H : Heap} {locs : List Loc} (hH : HR A2 D ac K h H) (hM : MW G bb σ H) (hS : va_S A0 s.heap H locs) (hz : bb + 1 + mNA ≤ H.size) {ls : Array Slot} (hl : lv_has ls 4 [(0, .ref b), (1, .ref a), (2, .ref bb), (3, .int (nI i))])
    (kk : ∀ (H1 : Heap) (locs1 : List Loc) (n : Nat), n ≤ h.2.2 → HR A2 D ac K (h.1, h.2.1, n) H1 → MW G bb σ H1 → bb + 1 + mNA ≤ H1.size → va_S A0 s.heap H1 locs1 → W p l e room_1 s m #[Value.ref b] below meth c H1 locs1 room_1.cells room_1.slots Q (F0 m 1167 ls [])) : W p l e room_1 s m #[Value.ref b] below meth c H locs room_1.cells room_1.slots Q (F0 m 442 ls []) := by
  obtain ⟨S, hG, hK, hRM, ⟨hX, hbl, hbA, hL⟩, hA, hB, hKo⟩ := C
  obtain ⟨hx, hb, hml, hown, hts⟩ := id S
  refine lv_aload_n hx hb dL_law_442 rfl (lv_at hl 1 rfl) ?_
  refine lv_aload_n hx hb dL_law_443 rfl (lv_at hl 0 rfl) ?_
  refine lv_iload_n hx hb dL_law_444 rfl (lv_at hl 3 rfl) ?_
  refine lv_iconst (v := (1 : Int32)) hx hb dL_law_445 (by decide) ?_
  refine lv_iadd hx hb dL_law_446 ?_
  refine va_sld hx hb hX hbl hbA hS (l_ix (k := 1) (by omega) hL rfl).1 dL_law_447 ?_
  rw [(l_ix (i := i) (k := 1) (L := L) (v := (1 : Int32)) (by omega) hL rfl).2]
  refine lv_aload_n hx hb dL_law_448 rfl (lv_at hl 0 rfl) ?_
  refine lv_iload_n hx hb dL_law_449 rfl (lv_at hl 3 rfl) ?_
  refine lv_iconst (v := (2 : Int32)) hx hb dL_law_450 (by decide) ?_
  refine lv_iadd hx hb dL_law_451 ?_
  refine va_sld hx hb hX hbl hbA hS (l_ix (k := 2) (by omega) hL rfl).1 dL_law_452 ?_
  rw [(l_ix (i := i) (k := 2) (L := L) (v := (2 : Int32)) (by omega) hL rfl).2]
  refine l_ci (x := (h, v)) hH hM hS hRM hA (fun q h => (hB q h).2) hz (fun _ _ f1 f2 => va_runV (b := a) (As := [.int (xs (i + 1)), .int (xs (i + 2))]) (rest := []) S (metX0_taste z1) (cwV 2 hts (lw_V q1350 q1351 q1352 q167 q1353) rfl rfl rfl (by decide +kernel) ⟨Nat.le_of_ble_eq_true rfl, Nat.le_of_ble_eq_true rfl⟩) (l_preV hG hA hH hS ho) rfl rfl hl.1 rfl (lv_room (Nat.le_of_ble_eq_true rfl)) dL_law_453 ⟨f1, f2⟩) (fun H1 locs1 hH hM hz1 hS => ?_)
  replace hz := Nat.le_trans hz hz1
  refine lv_aload_n hx hb dL_law_456 rfl (lv_at hl 2 rfl) ?_
  refine lv_aload_n hx hb dL_law_457 rfl (lv_at hl 0 rfl) ?_
  refine lv_iload_n hx hb dL_law_458 rfl (lv_at hl 3 rfl) ?_
  refine lv_iconst (v := (1 : Int32)) hx hb dL_law_459 (by decide) ?_
  refine lv_iadd hx hb dL_law_460 ?_
  refine va_sld hx hb hX hbl hbA hS (l_ix (k := 1) (by omega) hL rfl).1 dL_law_461 ?_
  rw [(l_ix (i := i) (k := 1) (L := L) (v := (1 : Int32)) (by omega) hL rfl).2]
  refine lv_aload_n hx hb dL_law_462 rfl (lv_at hl 0 rfl) ?_
  refine lv_iload_n hx hb dL_law_463 rfl (lv_at hl 3 rfl) ?_
  refine lv_iconst (v := (2 : Int32)) hx hb dL_law_464 (by decide) ?_
  refine lv_iadd hx hb dL_law_465 ?_
  refine va_sld hx hb hX hbl hbA hS (l_ix (k := 2) (by omega) hL rfl).1 dL_law_466 ?_
  rw [(l_ix (i := i) (k := 2) (L := L) (v := (2 : Int32)) (by omega) hL rfl).2]
  refine l_mi (x := (σ, v)) hH hS hRM hB hKo (fun _ _ f1 f2 => va_runV (b := bb) (As := [.int (xs (i + 1)), .int (xs (i + 2))]) (rest := [.int v]) S (metX6_taste z2) (cwV 2 hts (lw_V q2318 q2319 q2320 q179 q2321) rfl rfl rfl (by decide +kernel) ⟨Nat.le_of_ble_eq_true rfl, Nat.le_of_ble_eq_true rfl⟩) (m_preV hK hM) rfl rfl hl.1 rfl (lv_room (Nat.le_of_ble_eq_true rfl)) dL_law_467 ⟨f1, f2⟩) (fun H2 locs2 n hn hH hM hz2 hS => ?_)
  refine lv_icmp_eq (tgt := 1167) hx hb dL_law_470 (by decide) (fun _ => ?_) (fun c => absurd rfl c)
  exact kk _ _ _ hn hH hM (Nat.le_trans hz hz2) hS
set_option maxHeartbeats 4000000 in
theorem law_c9 {p : Program} {l : Launch} {e : Env} {s : State} {m : MethodId} {below : List Frame} {meth : Method} {c : Code} {D : va_G} {ac : Nat → ClassId} {K : KE} {G : mG} {A0 A2 : Nat → Prop} {a b bb L i : Nat} {xs : Nat → Int32} {Q : State → Prop} (C : LX p s m c D ac K G A0 A2 b bb L xs) {h : HS} {σ : MS} {v : Int32} (ho : ∃ fs, rd K h a = some (.inr (0, fs))) (hi : i + 6 ≤ L) (z1 : fX0_seen K h a (xs (i + 1)) (xs (i + 2)) = some v) (z2 : fX6_seen σ (xs (i + 1)) (xs (i + 2)) = some v) {H : Heap} {locs : List Loc} (hH : HR A2 D ac K h H) (hM : MW G bb σ H) (hS : va_S A0 s.heap H locs) (hz : bb + 1 + mNA ≤ H.size) {ls : Array Slot} (hl : lv_has ls 4 [(0, .ref b), (1, .ref a), (2, .ref bb), (3, .int (nI i))])
    (kk : ∀ (H1 : Heap) (locs1 : List Loc) (n : Nat), n ≤ h.2.2 → HR A2 D ac K (h.1, h.2.1, n) H1 → MW G bb σ H1 → bb + 1 + mNA ≤ H1.size → va_S A0 s.heap H1 locs1 → W p l e room_1 s m #[Value.ref b] below meth c H1 locs1 room_1.cells room_1.slots Q (F0 m 1167 ls [])) : W p l e room_1 s m #[Value.ref b] below meth c H locs room_1.cells room_1.slots Q (F0 m 475 ls []) := by
  obtain ⟨S, hG, hK, hRM, ⟨hX, hbl, hbA, hL⟩, hA, hB, hKo⟩ := C
  obtain ⟨hx, hb, hml, hown, hts⟩ := id S
  refine lv_aload_n hx hb dL_law_475 rfl (lv_at hl 1 rfl) ?_
  refine lv_aload_n hx hb dL_law_476 rfl (lv_at hl 0 rfl) ?_
  refine lv_iload_n hx hb dL_law_477 rfl (lv_at hl 3 rfl) ?_
  refine lv_iconst (v := (1 : Int32)) hx hb dL_law_478 (by decide) ?_
  refine lv_iadd hx hb dL_law_479 ?_
  refine va_sld hx hb hX hbl hbA hS (l_ix (k := 1) (by omega) hL rfl).1 dL_law_480 ?_
  rw [(l_ix (i := i) (k := 1) (L := L) (v := (1 : Int32)) (by omega) hL rfl).2]
  refine lv_aload_n hx hb dL_law_481 rfl (lv_at hl 0 rfl) ?_
  refine lv_iload_n hx hb dL_law_482 rfl (lv_at hl 3 rfl) ?_
  refine lv_iconst (v := (2 : Int32)) hx hb dL_law_483 (by decide) ?_
  refine lv_iadd hx hb dL_law_484 ?_
  refine va_sld hx hb hX hbl hbA hS (l_ix (k := 2) (by omega) hL rfl).1 dL_law_485 ?_
  rw [(l_ix (i := i) (k := 2) (L := L) (v := (2 : Int32)) (by omega) hL rfl).2]
  refine l_ci (x := (h, v)) hH hM hS hRM hA (fun q h => (hB q h).2) hz (fun _ _ f1 f2 => va_runV (b := a) (As := [.int (xs (i + 1)), .int (xs (i + 2))]) (rest := []) S (metX0_seen z1) (cwV 2 hts (lw_V q1354 q1355 q1356 q167 q1357) rfl rfl rfl (by decide +kernel) ⟨Nat.le_of_ble_eq_true rfl, Nat.le_of_ble_eq_true rfl⟩) (l_preV hG hA hH hS ho) rfl rfl hl.1 rfl (lv_room (Nat.le_of_ble_eq_true rfl)) dL_law_486 ⟨f1, f2⟩) (fun H1 locs1 hH hM hz1 hS => ?_)
  replace hz := Nat.le_trans hz hz1
  refine lv_aload_n hx hb dL_law_489 rfl (lv_at hl 2 rfl) ?_
  refine lv_aload_n hx hb dL_law_490 rfl (lv_at hl 0 rfl) ?_
  refine lv_iload_n hx hb dL_law_491 rfl (lv_at hl 3 rfl) ?_
  refine lv_iconst (v := (1 : Int32)) hx hb dL_law_492 (by decide) ?_
  refine lv_iadd hx hb dL_law_493 ?_
  refine va_sld hx hb hX hbl hbA hS (l_ix (k := 1) (by omega) hL rfl).1 dL_law_494 ?_
  rw [(l_ix (i := i) (k := 1) (L := L) (v := (1 : Int32)) (by omega) hL rfl).2]
  refine lv_aload_n hx hb dL_law_495 rfl (lv_at hl 0 rfl) ?_
  refine lv_iload_n hx hb dL_law_496 rfl (lv_at hl 3 rfl) ?_
  refine lv_iconst (v := (2 : Int32)) hx hb dL_law_497 (by decide) ?_
  refine lv_iadd hx hb dL_law_498 ?_
  refine va_sld hx hb hX hbl hbA hS (l_ix (k := 2) (by omega) hL rfl).1 dL_law_499 ?_
  rw [(l_ix (i := i) (k := 2) (L := L) (v := (2 : Int32)) (by omega) hL rfl).2]
  refine l_mi (x := (σ, v)) hH hS hRM hB hKo (fun _ _ f1 f2 => va_runV (b := bb) (As := [.int (xs (i + 1)), .int (xs (i + 2))]) (rest := [.int v]) S (metX6_seen z2) (cwV 2 hts (lw_V q2326 q2327 q2328 q179 q2329) rfl rfl rfl (by decide +kernel) ⟨Nat.le_of_ble_eq_true rfl, Nat.le_of_ble_eq_true rfl⟩) (m_preV hK hM) rfl rfl hl.1 rfl (lv_room (Nat.le_of_ble_eq_true rfl)) dL_law_500 ⟨f1, f2⟩) (fun H2 locs2 n hn hH hM hz2 hS => ?_)
  refine lv_icmp_eq (tgt := 1167) hx hb dL_law_503 (by decide) (fun _ => ?_) (fun c => absurd rfl c)
  exact kk _ _ _ hn hH hM (Nat.le_trans hz hz2) hS
set_option maxHeartbeats 4000000 in
theorem law_c10 {p : Program} {l : Launch} {e : Env} {s : State} {m : MethodId} {below : List Frame} {meth : Method} {c : Code} {D : va_G} {ac : Nat → ClassId} {K : KE} {G : mG} {A0 A2 : Nat → Prop} {a b bb L i : Nat} {xs : Nat → Int32} {Q : State → Prop} (C : LX p s m c D ac K G A0 A2 b bb L xs) {h h' : HS} {σ σ' : MS} {v : Int32} (ho : ∃ fs, rd K h a = some (.inr (0, fs))) (hi : i + 6 ≤ L) (z1 : fX0_suggest K h a (xs (i + 1)) = some (h', v)) (z2 : fX6_suggest σ (xs (i + 1)) = some (σ', v)) {H : Heap} {locs : List Loc} (hH : HR A2 D ac K h H) (hM : MW G bb σ H) (hS : va_S A0 s.heap H locs) (hz : bb + 1 + mNA ≤ H.size) {ls : Array Slot} (hl : lv_has ls 4 [(0, .ref b), (1, .ref a), (2, .ref bb), (3, .int (nI i))])
    (kk : ∀ (H1 : Heap) (locs1 : List Loc) (n : Nat), n ≤ h'.2.2 → HR A2 D ac K (h'.1, h'.2.1, n) H1 → MW G bb σ' H1 → bb + 1 + mNA ≤ H1.size → va_S A0 s.heap H1 locs1 → W p l e room_1 s m #[Value.ref b] below meth c H1 locs1 room_1.cells room_1.slots Q (F0 m 1167 ls [])) : W p l e room_1 s m #[Value.ref b] below meth c H locs room_1.cells room_1.slots Q (F0 m 508 ls []) := by
  obtain ⟨S, hG, hK, hRM, ⟨hX, hbl, hbA, hL⟩, hA, hB, hKo⟩ := C
  obtain ⟨hx, hb, hml, hown, hts⟩ := id S
  refine lv_aload_n hx hb dL_law_508 rfl (lv_at hl 1 rfl) ?_
  refine lv_aload_n hx hb dL_law_509 rfl (lv_at hl 0 rfl) ?_
  refine lv_iload_n hx hb dL_law_510 rfl (lv_at hl 3 rfl) ?_
  refine lv_iconst (v := (1 : Int32)) hx hb dL_law_511 (by decide) ?_
  refine lv_iadd hx hb dL_law_512 ?_
  refine va_sld hx hb hX hbl hbA hS (l_ix (k := 1) (by omega) hL rfl).1 dL_law_513 ?_
  rw [(l_ix (i := i) (k := 1) (L := L) (v := (1 : Int32)) (by omega) hL rfl).2]
  refine l_ci (x := (h', v)) hH hM hS hRM hA (fun q h => (hB q h).2) hz (fun _ _ f1 f2 => va_runV (b := a) (As := [.int (xs (i + 1))]) (rest := []) S (metX0_suggest z1) (cwV 1 hts (lw_V q1358 q1359 q1360 q167 q1361) rfl rfl rfl (by decide +kernel) ⟨Nat.le_of_ble_eq_true rfl, Nat.le_of_ble_eq_true rfl⟩) (l_preV hG hA hH hS ho) rfl rfl hl.1 rfl (lv_room (Nat.le_of_ble_eq_true rfl)) dL_law_514 ⟨f1, f2⟩) (fun H1 locs1 hH hM hz1 hS => ?_)
  replace hz := Nat.le_trans hz hz1
  refine lv_aload_n hx hb dL_law_517 rfl (lv_at hl 2 rfl) ?_
  refine lv_aload_n hx hb dL_law_518 rfl (lv_at hl 0 rfl) ?_
  refine lv_iload_n hx hb dL_law_519 rfl (lv_at hl 3 rfl) ?_
  refine lv_iconst (v := (1 : Int32)) hx hb dL_law_520 (by decide) ?_
  refine lv_iadd hx hb dL_law_521 ?_
  refine va_sld hx hb hX hbl hbA hS (l_ix (k := 1) (by omega) hL rfl).1 dL_law_522 ?_
  rw [(l_ix (i := i) (k := 1) (L := L) (v := (1 : Int32)) (by omega) hL rfl).2]
  refine l_mi (x := (σ', v)) hH hS hRM hB hKo (fun _ _ f1 f2 => va_runV (b := bb) (As := [.int (xs (i + 1))]) (rest := [.int v]) S (metX6_suggest z2) (cwV 1 hts (lw_V q2338 q2339 q2340 q179 q2341) rfl rfl rfl (by decide +kernel) ⟨Nat.le_of_ble_eq_true rfl, Nat.le_of_ble_eq_true rfl⟩) (m_preV hK hM) rfl rfl hl.1 rfl (lv_room (Nat.le_of_ble_eq_true rfl)) dL_law_523 ⟨f1, f2⟩) (fun H2 locs2 n hn hH hM hz2 hS => ?_)
  refine lv_icmp_eq (tgt := 1167) hx hb dL_law_526 (by decide) (fun _ => ?_) (fun c => absurd rfl c)
  exact kk _ _ _ hn hH hM (Nat.le_trans hz hz2) hS
set_option maxHeartbeats 4000000 in
theorem law_c11 {p : Program} {l : Launch} {e : Env} {s : State} {m : MethodId} {below : List Frame} {meth : Method} {c : Code} {D : va_G} {ac : Nat → ClassId} {K : KE} {G : mG} {A0 A2 : Nat → Prop} {a b bb L i : Nat} {xs : Nat → Int32} {Q : State → Prop} (C : LX p s m c D ac K G A0 A2 b bb L xs) {h : HS} {σ : MS} {v : Int32} (ho : ∃ fs, rd K h a = some (.inr (0, fs))) (hi : i + 6 ≤ L) (z1 : fX0_worth K h a (xs (i + 1)) (xs (i + 2)) = some v) (z2 : fX6_worth σ (xs (i + 1)) (xs (i + 2)) = some v) {H : Heap} {locs : List Loc} (hH : HR A2 D ac K h H) (hM : MW G bb σ H) (hS : va_S A0 s.heap H locs) (hz : bb + 1 + mNA ≤ H.size) {ls : Array Slot} (hl : lv_has ls 4 [(0, .ref b), (1, .ref a), (2, .ref bb), (3, .int (nI i))])
    (kk : ∀ (H1 : Heap) (locs1 : List Loc) (n : Nat), n ≤ h.2.2 → HR A2 D ac K (h.1, h.2.1, n) H1 → MW G bb σ H1 → bb + 1 + mNA ≤ H1.size → va_S A0 s.heap H1 locs1 → W p l e room_1 s m #[Value.ref b] below meth c H1 locs1 room_1.cells room_1.slots Q (F0 m 1167 ls [])) : W p l e room_1 s m #[Value.ref b] below meth c H locs room_1.cells room_1.slots Q (F0 m 531 ls []) := by
  obtain ⟨S, hG, hK, hRM, ⟨hX, hbl, hbA, hL⟩, hA, hB, hKo⟩ := C
  obtain ⟨hx, hb, hml, hown, hts⟩ := id S
  refine lv_aload_n hx hb dL_law_531 rfl (lv_at hl 1 rfl) ?_
  refine lv_aload_n hx hb dL_law_532 rfl (lv_at hl 0 rfl) ?_
  refine lv_iload_n hx hb dL_law_533 rfl (lv_at hl 3 rfl) ?_
  refine lv_iconst (v := (1 : Int32)) hx hb dL_law_534 (by decide) ?_
  refine lv_iadd hx hb dL_law_535 ?_
  refine va_sld hx hb hX hbl hbA hS (l_ix (k := 1) (by omega) hL rfl).1 dL_law_536 ?_
  rw [(l_ix (i := i) (k := 1) (L := L) (v := (1 : Int32)) (by omega) hL rfl).2]
  refine lv_aload_n hx hb dL_law_537 rfl (lv_at hl 0 rfl) ?_
  refine lv_iload_n hx hb dL_law_538 rfl (lv_at hl 3 rfl) ?_
  refine lv_iconst (v := (2 : Int32)) hx hb dL_law_539 (by decide) ?_
  refine lv_iadd hx hb dL_law_540 ?_
  refine va_sld hx hb hX hbl hbA hS (l_ix (k := 2) (by omega) hL rfl).1 dL_law_541 ?_
  rw [(l_ix (i := i) (k := 2) (L := L) (v := (2 : Int32)) (by omega) hL rfl).2]
  refine l_ci (x := (h, v)) hH hM hS hRM hA (fun q h => (hB q h).2) hz (fun _ _ f1 f2 => va_runV (b := a) (As := [.int (xs (i + 1)), .int (xs (i + 2))]) (rest := []) S (metX0_worth z1) (cwV 2 hts (lw_V q1467 q1468 q1469 q167 q1470) rfl rfl rfl (by decide +kernel) ⟨Nat.le_of_ble_eq_true rfl, Nat.le_of_ble_eq_true rfl⟩) (l_preV hG hA hH hS ho) rfl rfl hl.1 rfl (lv_room (Nat.le_of_ble_eq_true rfl)) dL_law_542 ⟨f1, f2⟩) (fun H1 locs1 hH hM hz1 hS => ?_)
  replace hz := Nat.le_trans hz hz1
  refine lv_aload_n hx hb dL_law_545 rfl (lv_at hl 2 rfl) ?_
  refine lv_aload_n hx hb dL_law_546 rfl (lv_at hl 0 rfl) ?_
  refine lv_iload_n hx hb dL_law_547 rfl (lv_at hl 3 rfl) ?_
  refine lv_iconst (v := (1 : Int32)) hx hb dL_law_548 (by decide) ?_
  refine lv_iadd hx hb dL_law_549 ?_
  refine va_sld hx hb hX hbl hbA hS (l_ix (k := 1) (by omega) hL rfl).1 dL_law_550 ?_
  rw [(l_ix (i := i) (k := 1) (L := L) (v := (1 : Int32)) (by omega) hL rfl).2]
  refine lv_aload_n hx hb dL_law_551 rfl (lv_at hl 0 rfl) ?_
  refine lv_iload_n hx hb dL_law_552 rfl (lv_at hl 3 rfl) ?_
  refine lv_iconst (v := (2 : Int32)) hx hb dL_law_553 (by decide) ?_
  refine lv_iadd hx hb dL_law_554 ?_
  refine va_sld hx hb hX hbl hbA hS (l_ix (k := 2) (by omega) hL rfl).1 dL_law_555 ?_
  rw [(l_ix (i := i) (k := 2) (L := L) (v := (2 : Int32)) (by omega) hL rfl).2]
  refine l_mi (x := (σ, v)) hH hS hRM hB hKo (fun _ _ f1 f2 => va_runV (b := bb) (As := [.int (xs (i + 1)), .int (xs (i + 2))]) (rest := [.int v]) S (metX6_worth z2) (cwV 2 hts (lw_V q2386 q2387 q2388 q179 q2389) rfl rfl rfl (by decide +kernel) ⟨Nat.le_of_ble_eq_true rfl, Nat.le_of_ble_eq_true rfl⟩) (m_preV hK hM) rfl rfl hl.1 rfl (lv_room (Nat.le_of_ble_eq_true rfl)) dL_law_556 ⟨f1, f2⟩) (fun H2 locs2 n hn hH hM hz2 hS => ?_)
  refine lv_icmp_eq (tgt := 1167) hx hb dL_law_559 (by decide) (fun _ => ?_) (fun c => absurd rfl c)
  exact kk _ _ _ hn hH hM (Nat.le_trans hz hz2) hS
set_option maxHeartbeats 4000000 in
theorem law_c12 {p : Program} {l : Launch} {e : Env} {s : State} {m : MethodId} {below : List Frame} {meth : Method} {c : Code} {D : va_G} {ac : Nat → ClassId} {K : KE} {G : mG} {A0 A2 : Nat → Prop} {a b bb L i : Nat} {xs : Nat → Int32} {Q : State → Prop} (C : LX p s m c D ac K G A0 A2 b bb L xs) {h : HS} {σ : MS} {v : Int32} (ho : ∃ fs, rd K h a = some (.inr (0, fs))) (hi : i + 6 ≤ L) (z1 : fX0_kept K h a (xs (i + 1)) (xs (i + 2)) = some v) (z2 : fX6_kept σ (xs (i + 1)) (xs (i + 2)) = some v) {H : Heap} {locs : List Loc} (hH : HR A2 D ac K h H) (hM : MW G bb σ H) (hS : va_S A0 s.heap H locs) (hz : bb + 1 + mNA ≤ H.size) {ls : Array Slot} (hl : lv_has ls 4 [(0, .ref b), (1, .ref a), (2, .ref bb), (3, .int (nI i))])
    (kk : ∀ (H1 : Heap) (locs1 : List Loc) (n : Nat), n ≤ h.2.2 → HR A2 D ac K (h.1, h.2.1, n) H1 → MW G bb σ H1 → bb + 1 + mNA ≤ H1.size → va_S A0 s.heap H1 locs1 → W p l e room_1 s m #[Value.ref b] below meth c H1 locs1 room_1.cells room_1.slots Q (F0 m 1167 ls [])) : W p l e room_1 s m #[Value.ref b] below meth c H locs room_1.cells room_1.slots Q (F0 m 564 ls []) := by
  obtain ⟨S, hG, hK, hRM, ⟨hX, hbl, hbA, hL⟩, hA, hB, hKo⟩ := C
  obtain ⟨hx, hb, hml, hown, hts⟩ := id S
  refine lv_aload_n hx hb dL_law_564 rfl (lv_at hl 1 rfl) ?_
  refine lv_aload_n hx hb dL_law_565 rfl (lv_at hl 0 rfl) ?_
  refine lv_iload_n hx hb dL_law_566 rfl (lv_at hl 3 rfl) ?_
  refine lv_iconst (v := (1 : Int32)) hx hb dL_law_567 (by decide) ?_
  refine lv_iadd hx hb dL_law_568 ?_
  refine va_sld hx hb hX hbl hbA hS (l_ix (k := 1) (by omega) hL rfl).1 dL_law_569 ?_
  rw [(l_ix (i := i) (k := 1) (L := L) (v := (1 : Int32)) (by omega) hL rfl).2]
  refine lv_aload_n hx hb dL_law_570 rfl (lv_at hl 0 rfl) ?_
  refine lv_iload_n hx hb dL_law_571 rfl (lv_at hl 3 rfl) ?_
  refine lv_iconst (v := (2 : Int32)) hx hb dL_law_572 (by decide) ?_
  refine lv_iadd hx hb dL_law_573 ?_
  refine va_sld hx hb hX hbl hbA hS (l_ix (k := 2) (by omega) hL rfl).1 dL_law_574 ?_
  rw [(l_ix (i := i) (k := 2) (L := L) (v := (2 : Int32)) (by omega) hL rfl).2]
  refine l_ci (x := (h, v)) hH hM hS hRM hA (fun q h => (hB q h).2) hz (fun _ _ f1 f2 => va_runV (b := a) (As := [.int (xs (i + 1)), .int (xs (i + 2))]) (rest := []) S (metX0_kept z1) (cwV 2 hts (lw_V q1475 q1476 q1477 q167 q1478) rfl rfl rfl (by decide +kernel) ⟨Nat.le_of_ble_eq_true rfl, Nat.le_of_ble_eq_true rfl⟩) (l_preV hG hA hH hS ho) rfl rfl hl.1 rfl (lv_room (Nat.le_of_ble_eq_true rfl)) dL_law_575 ⟨f1, f2⟩) (fun H1 locs1 hH hM hz1 hS => ?_)
  replace hz := Nat.le_trans hz hz1
  refine lv_aload_n hx hb dL_law_578 rfl (lv_at hl 2 rfl) ?_
  refine lv_aload_n hx hb dL_law_579 rfl (lv_at hl 0 rfl) ?_
  refine lv_iload_n hx hb dL_law_580 rfl (lv_at hl 3 rfl) ?_
  refine lv_iconst (v := (1 : Int32)) hx hb dL_law_581 (by decide) ?_
  refine lv_iadd hx hb dL_law_582 ?_
  refine va_sld hx hb hX hbl hbA hS (l_ix (k := 1) (by omega) hL rfl).1 dL_law_583 ?_
  rw [(l_ix (i := i) (k := 1) (L := L) (v := (1 : Int32)) (by omega) hL rfl).2]
  refine lv_aload_n hx hb dL_law_584 rfl (lv_at hl 0 rfl) ?_
  refine lv_iload_n hx hb dL_law_585 rfl (lv_at hl 3 rfl) ?_
  refine lv_iconst (v := (2 : Int32)) hx hb dL_law_586 (by decide) ?_
  refine lv_iadd hx hb dL_law_587 ?_
  refine va_sld hx hb hX hbl hbA hS (l_ix (k := 2) (by omega) hL rfl).1 dL_law_588 ?_
  rw [(l_ix (i := i) (k := 2) (L := L) (v := (2 : Int32)) (by omega) hL rfl).2]
  refine l_mi (x := (σ, v)) hH hS hRM hB hKo (fun _ _ f1 f2 => va_runV (b := bb) (As := [.int (xs (i + 1)), .int (xs (i + 2))]) (rest := [.int v]) S (metX6_kept z2) (cwV 2 hts (lw_V q2390 q2391 q2392 q179 q2393) rfl rfl rfl (by decide +kernel) ⟨Nat.le_of_ble_eq_true rfl, Nat.le_of_ble_eq_true rfl⟩) (m_preV hK hM) rfl rfl hl.1 rfl (lv_room (Nat.le_of_ble_eq_true rfl)) dL_law_589 ⟨f1, f2⟩) (fun H2 locs2 n hn hH hM hz2 hS => ?_)
  refine lv_icmp_eq (tgt := 1167) hx hb dL_law_592 (by decide) (fun _ => ?_) (fun c => absurd rfl c)
  exact kk _ _ _ hn hH hM (Nat.le_trans hz hz2) hS
set_option maxHeartbeats 4000000 in
theorem law_c13 {p : Program} {l : Launch} {e : Env} {s : State} {m : MethodId} {below : List Frame} {meth : Method} {c : Code} {D : va_G} {ac : Nat → ClassId} {K : KE} {G : mG} {A0 A2 : Nat → Prop} {a b bb L i : Nat} {xs : Nat → Int32} {Q : State → Prop} (C : LX p s m c D ac K G A0 A2 b bb L xs) {h h' : HS} {σ σ' : MS} {v : Int64} (ho : ∃ fs, rd K h a = some (.inr (0, fs))) (hi : i + 6 ≤ L) (z1 : fX0_pleased K h a (xs (i + 1)) (xs (i + 2)) = some (h', v)) (z2 : fX6_pleased σ (xs (i + 1)) (xs (i + 2)) = some (σ', v)) {H : Heap} {locs : List Loc} (hH : HR A2 D ac K h H) (hM : MW G bb σ H) (hS : va_S A0 s.heap H locs) (hz : bb + 1 + mNA ≤ H.size) {ls : Array Slot} (hl : lv_has ls 4 [(0, .ref b), (1, .ref a), (2, .ref bb), (3, .int (nI i))])
    (kk : ∀ (H1 : Heap) (locs1 : List Loc) (n : Nat), n ≤ h'.2.2 → HR A2 D ac K (h'.1, h'.2.1, n) H1 → MW G bb σ' H1 → bb + 1 + mNA ≤ H1.size → va_S A0 s.heap H1 locs1 → W p l e room_1 s m #[Value.ref b] below meth c H1 locs1 room_1.cells room_1.slots Q (F0 m 1167 ls [])) : W p l e room_1 s m #[Value.ref b] below meth c H locs room_1.cells room_1.slots Q (F0 m 597 ls []) := by
  obtain ⟨S, hG, hK, hRM, ⟨hX, hbl, hbA, hL⟩, hA, hB, hKo⟩ := C
  obtain ⟨hx, hb, hml, hown, hts⟩ := id S
  refine lv_aload_n hx hb dL_law_597 rfl (lv_at hl 1 rfl) ?_
  refine lv_aload_n hx hb dL_law_598 rfl (lv_at hl 0 rfl) ?_
  refine lv_iload_n hx hb dL_law_599 rfl (lv_at hl 3 rfl) ?_
  refine lv_iconst (v := (1 : Int32)) hx hb dL_law_600 (by decide) ?_
  refine lv_iadd hx hb dL_law_601 ?_
  refine va_sld hx hb hX hbl hbA hS (l_ix (k := 1) (by omega) hL rfl).1 dL_law_602 ?_
  rw [(l_ix (i := i) (k := 1) (L := L) (v := (1 : Int32)) (by omega) hL rfl).2]
  refine lv_aload_n hx hb dL_law_603 rfl (lv_at hl 0 rfl) ?_
  refine lv_iload_n hx hb dL_law_604 rfl (lv_at hl 3 rfl) ?_
  refine lv_iconst (v := (2 : Int32)) hx hb dL_law_605 (by decide) ?_
  refine lv_iadd hx hb dL_law_606 ?_
  refine va_sld hx hb hX hbl hbA hS (l_ix (k := 2) (by omega) hL rfl).1 dL_law_607 ?_
  rw [(l_ix (i := i) (k := 2) (L := L) (v := (2 : Int32)) (by omega) hL rfl).2]
  refine l_cl (x := (h', v)) hH hM hS hRM hA (fun q h => (hB q h).2) hz (fun _ _ f1 f2 => va_runV (b := a) (As := [.int (xs (i + 1)), .int (xs (i + 2))]) (rest := []) S (metX0_pleased z1) (cwV 2 hts (lw_V q1479 q1480 q1481 q167 q1482) rfl rfl rfl (by decide +kernel) ⟨Nat.le_of_ble_eq_true rfl, Nat.le_of_ble_eq_true rfl⟩) (l_preV hG hA hH hS ho) rfl rfl hl.1 rfl (lv_room (Nat.le_of_ble_eq_true rfl)) dL_law_608 ⟨f1, f2⟩) (fun H1 locs1 hH hM hz1 hS => ?_)
  replace hz := Nat.le_trans hz hz1
  refine lv_aload_n hx hb dL_law_611 rfl (lv_at hl 2 rfl) ?_
  refine lv_aload_n hx hb dL_law_612 rfl (lv_at hl 0 rfl) ?_
  refine lv_iload_n hx hb dL_law_613 rfl (lv_at hl 3 rfl) ?_
  refine lv_iconst (v := (1 : Int32)) hx hb dL_law_614 (by decide) ?_
  refine lv_iadd hx hb dL_law_615 ?_
  refine va_sld hx hb hX hbl hbA hS (l_ix (k := 1) (by omega) hL rfl).1 dL_law_616 ?_
  rw [(l_ix (i := i) (k := 1) (L := L) (v := (1 : Int32)) (by omega) hL rfl).2]
  refine lv_aload_n hx hb dL_law_617 rfl (lv_at hl 0 rfl) ?_
  refine lv_iload_n hx hb dL_law_618 rfl (lv_at hl 3 rfl) ?_
  refine lv_iconst (v := (2 : Int32)) hx hb dL_law_619 (by decide) ?_
  refine lv_iadd hx hb dL_law_620 ?_
  refine va_sld hx hb hX hbl hbA hS (l_ix (k := 2) (by omega) hL rfl).1 dL_law_621 ?_
  rw [(l_ix (i := i) (k := 2) (L := L) (v := (2 : Int32)) (by omega) hL rfl).2]
  refine l_ml (x := (σ', v)) hH hS hRM hB hKo (fun _ _ f1 f2 => va_runV (b := bb) (As := [.int (xs (i + 1)), .int (xs (i + 2))]) (rest := [.long v]) S (metX6_pleased z2) (cwV 2 hts (lw_V q2394 q2395 q2396 q179 q2397) rfl rfl rfl (by decide +kernel) ⟨Nat.le_of_ble_eq_true rfl, Nat.le_of_ble_eq_true rfl⟩) (m_preV hK hM) rfl rfl hl.1 rfl (lv_room (Nat.le_of_ble_eq_true rfl)) dL_law_622 ⟨f1, f2⟩) (fun H2 locs2 n hn hH hM hz2 hS => ?_)
  refine W.lcmp hx hb dL_law_625 ?_
  refine lv_if_eq (tgt := 1167) hx hb dL_law_626 (by decide) (fun _ => ?_) (fun c => absurd (lg_cmp_self v) c)
  exact kk _ _ _ hn hH hM (Nat.le_trans hz hz2) hS
set_option maxHeartbeats 4000000 in
theorem law_c14 {p : Program} {l : Launch} {e : Env} {s : State} {m : MethodId} {below : List Frame} {meth : Method} {c : Code} {D : va_G} {ac : Nat → ClassId} {K : KE} {G : mG} {A0 A2 : Nat → Prop} {a b bb L i : Nat} {xs : Nat → Int32} {Q : State → Prop} (C : LX p s m c D ac K G A0 A2 b bb L xs) {h h' : HS} {σ σ' : MS} {v : Int32} (ho : ∃ fs, rd K h a = some (.inr (0, fs))) (hi : i + 6 ≤ L) (z1 : fX0_refused K h a (xs (i + 1)) (xs (i + 2)) = some (h', v)) (z2 : fX6_refused σ (xs (i + 1)) (xs (i + 2)) = some (σ', v)) {H : Heap} {locs : List Loc} (hH : HR A2 D ac K h H) (hM : MW G bb σ H) (hS : va_S A0 s.heap H locs) (hz : bb + 1 + mNA ≤ H.size) {ls : Array Slot} (hl : lv_has ls 4 [(0, .ref b), (1, .ref a), (2, .ref bb), (3, .int (nI i))])
    (kk : ∀ (H1 : Heap) (locs1 : List Loc) (n : Nat), n ≤ h'.2.2 → HR A2 D ac K (h'.1, h'.2.1, n) H1 → MW G bb σ' H1 → bb + 1 + mNA ≤ H1.size → va_S A0 s.heap H1 locs1 → W p l e room_1 s m #[Value.ref b] below meth c H1 locs1 room_1.cells room_1.slots Q (F0 m 1167 ls [])) : W p l e room_1 s m #[Value.ref b] below meth c H locs room_1.cells room_1.slots Q (F0 m 631 ls []) := by
  obtain ⟨S, hG, hK, hRM, ⟨hX, hbl, hbA, hL⟩, hA, hB, hKo⟩ := C
  obtain ⟨hx, hb, hml, hown, hts⟩ := id S
  refine lv_aload_n hx hb dL_law_631 rfl (lv_at hl 1 rfl) ?_
  refine lv_aload_n hx hb dL_law_632 rfl (lv_at hl 0 rfl) ?_
  refine lv_iload_n hx hb dL_law_633 rfl (lv_at hl 3 rfl) ?_
  refine lv_iconst (v := (1 : Int32)) hx hb dL_law_634 (by decide) ?_
  refine lv_iadd hx hb dL_law_635 ?_
  refine va_sld hx hb hX hbl hbA hS (l_ix (k := 1) (by omega) hL rfl).1 dL_law_636 ?_
  rw [(l_ix (i := i) (k := 1) (L := L) (v := (1 : Int32)) (by omega) hL rfl).2]
  refine lv_aload_n hx hb dL_law_637 rfl (lv_at hl 0 rfl) ?_
  refine lv_iload_n hx hb dL_law_638 rfl (lv_at hl 3 rfl) ?_
  refine lv_iconst (v := (2 : Int32)) hx hb dL_law_639 (by decide) ?_
  refine lv_iadd hx hb dL_law_640 ?_
  refine va_sld hx hb hX hbl hbA hS (l_ix (k := 2) (by omega) hL rfl).1 dL_law_641 ?_
  rw [(l_ix (i := i) (k := 2) (L := L) (v := (2 : Int32)) (by omega) hL rfl).2]
  refine l_ci (x := (h', v)) hH hM hS hRM hA (fun q h => (hB q h).2) hz (fun _ _ f1 f2 => va_runV (b := a) (As := [.int (xs (i + 1)), .int (xs (i + 2))]) (rest := []) S (metX0_refused z1) (cwV 2 hts (lw_V q1528 q1529 q1530 q167 q1531) rfl rfl rfl (by decide +kernel) ⟨Nat.le_of_ble_eq_true rfl, Nat.le_of_ble_eq_true rfl⟩) (l_preV hG hA hH hS ho) rfl rfl hl.1 rfl (lv_room (Nat.le_of_ble_eq_true rfl)) dL_law_642 ⟨f1, f2⟩) (fun H1 locs1 hH hM hz1 hS => ?_)
  replace hz := Nat.le_trans hz hz1
  refine lv_aload_n hx hb dL_law_645 rfl (lv_at hl 2 rfl) ?_
  refine lv_aload_n hx hb dL_law_646 rfl (lv_at hl 0 rfl) ?_
  refine lv_iload_n hx hb dL_law_647 rfl (lv_at hl 3 rfl) ?_
  refine lv_iconst (v := (1 : Int32)) hx hb dL_law_648 (by decide) ?_
  refine lv_iadd hx hb dL_law_649 ?_
  refine va_sld hx hb hX hbl hbA hS (l_ix (k := 1) (by omega) hL rfl).1 dL_law_650 ?_
  rw [(l_ix (i := i) (k := 1) (L := L) (v := (1 : Int32)) (by omega) hL rfl).2]
  refine lv_aload_n hx hb dL_law_651 rfl (lv_at hl 0 rfl) ?_
  refine lv_iload_n hx hb dL_law_652 rfl (lv_at hl 3 rfl) ?_
  refine lv_iconst (v := (2 : Int32)) hx hb dL_law_653 (by decide) ?_
  refine lv_iadd hx hb dL_law_654 ?_
  refine va_sld hx hb hX hbl hbA hS (l_ix (k := 2) (by omega) hL rfl).1 dL_law_655 ?_
  rw [(l_ix (i := i) (k := 2) (L := L) (v := (2 : Int32)) (by omega) hL rfl).2]
  refine l_mi (x := (σ', v)) hH hS hRM hB hKo (fun _ _ f1 f2 => va_runV (b := bb) (As := [.int (xs (i + 1)), .int (xs (i + 2))]) (rest := [.int v]) S (metX6_refused z2) (cwV 2 hts (lw_V q2451 q2452 q2453 q179 q2454) rfl rfl rfl (by decide +kernel) ⟨Nat.le_of_ble_eq_true rfl, Nat.le_of_ble_eq_true rfl⟩) (m_preV hK hM) rfl rfl hl.1 rfl (lv_room (Nat.le_of_ble_eq_true rfl)) dL_law_656 ⟨f1, f2⟩) (fun H2 locs2 n hn hH hM hz2 hS => ?_)
  refine lv_icmp_eq (tgt := 1167) hx hb dL_law_659 (by decide) (fun _ => ?_) (fun c => absurd rfl c)
  exact kk _ _ _ hn hH hM (Nat.le_trans hz hz2) hS
set_option maxHeartbeats 4000000 in
theorem law_c15 {p : Program} {l : Launch} {e : Env} {s : State} {m : MethodId} {below : List Frame} {meth : Method} {c : Code} {D : va_G} {ac : Nat → ClassId} {K : KE} {G : mG} {A0 A2 : Nat → Prop} {a b bb L i : Nat} {xs : Nat → Int32} {Q : State → Prop} (C : LX p s m c D ac K G A0 A2 b bb L xs) {h h' : HS} {σ σ' : MS} {v : Int64} (ho : ∃ fs, rd K h a = some (.inr (0, fs))) (hi : i + 6 ≤ L) (z1 : fX0_pressing K h a (xs (i + 1)) (xs (i + 2)) = some (h', v)) (z2 : fX6_pressing σ (xs (i + 1)) (xs (i + 2)) = some (σ', v)) {H : Heap} {locs : List Loc} (hH : HR A2 D ac K h H) (hM : MW G bb σ H) (hS : va_S A0 s.heap H locs) (hz : bb + 1 + mNA ≤ H.size) {ls : Array Slot} (hl : lv_has ls 4 [(0, .ref b), (1, .ref a), (2, .ref bb), (3, .int (nI i))])
    (kk : ∀ (H1 : Heap) (locs1 : List Loc) (n : Nat), n ≤ h'.2.2 → HR A2 D ac K (h'.1, h'.2.1, n) H1 → MW G bb σ' H1 → bb + 1 + mNA ≤ H1.size → va_S A0 s.heap H1 locs1 → W p l e room_1 s m #[Value.ref b] below meth c H1 locs1 room_1.cells room_1.slots Q (F0 m 1167 ls [])) : W p l e room_1 s m #[Value.ref b] below meth c H locs room_1.cells room_1.slots Q (F0 m 664 ls []) := by
  obtain ⟨S, hG, hK, hRM, ⟨hX, hbl, hbA, hL⟩, hA, hB, hKo⟩ := C
  obtain ⟨hx, hb, hml, hown, hts⟩ := id S
  refine lv_aload_n hx hb dL_law_664 rfl (lv_at hl 1 rfl) ?_
  refine lv_aload_n hx hb dL_law_665 rfl (lv_at hl 0 rfl) ?_
  refine lv_iload_n hx hb dL_law_666 rfl (lv_at hl 3 rfl) ?_
  refine lv_iconst (v := (1 : Int32)) hx hb dL_law_667 (by decide) ?_
  refine lv_iadd hx hb dL_law_668 ?_
  refine va_sld hx hb hX hbl hbA hS (l_ix (k := 1) (by omega) hL rfl).1 dL_law_669 ?_
  rw [(l_ix (i := i) (k := 1) (L := L) (v := (1 : Int32)) (by omega) hL rfl).2]
  refine lv_aload_n hx hb dL_law_670 rfl (lv_at hl 0 rfl) ?_
  refine lv_iload_n hx hb dL_law_671 rfl (lv_at hl 3 rfl) ?_
  refine lv_iconst (v := (2 : Int32)) hx hb dL_law_672 (by decide) ?_
  refine lv_iadd hx hb dL_law_673 ?_
  refine va_sld hx hb hX hbl hbA hS (l_ix (k := 2) (by omega) hL rfl).1 dL_law_674 ?_
  rw [(l_ix (i := i) (k := 2) (L := L) (v := (2 : Int32)) (by omega) hL rfl).2]
  refine l_cl (x := (h', v)) hH hM hS hRM hA (fun q h => (hB q h).2) hz (fun _ _ f1 f2 => va_runV (b := a) (As := [.int (xs (i + 1)), .int (xs (i + 2))]) (rest := []) S (metX0_pressing z1) (cwV 2 hts (lw_V q1532 q1533 q1534 q167 q1535) rfl rfl rfl (by decide +kernel) ⟨Nat.le_of_ble_eq_true rfl, Nat.le_of_ble_eq_true rfl⟩) (l_preV hG hA hH hS ho) rfl rfl hl.1 rfl (lv_room (Nat.le_of_ble_eq_true rfl)) dL_law_675 ⟨f1, f2⟩) (fun H1 locs1 hH hM hz1 hS => ?_)
  replace hz := Nat.le_trans hz hz1
  refine lv_aload_n hx hb dL_law_678 rfl (lv_at hl 2 rfl) ?_
  refine lv_aload_n hx hb dL_law_679 rfl (lv_at hl 0 rfl) ?_
  refine lv_iload_n hx hb dL_law_680 rfl (lv_at hl 3 rfl) ?_
  refine lv_iconst (v := (1 : Int32)) hx hb dL_law_681 (by decide) ?_
  refine lv_iadd hx hb dL_law_682 ?_
  refine va_sld hx hb hX hbl hbA hS (l_ix (k := 1) (by omega) hL rfl).1 dL_law_683 ?_
  rw [(l_ix (i := i) (k := 1) (L := L) (v := (1 : Int32)) (by omega) hL rfl).2]
  refine lv_aload_n hx hb dL_law_684 rfl (lv_at hl 0 rfl) ?_
  refine lv_iload_n hx hb dL_law_685 rfl (lv_at hl 3 rfl) ?_
  refine lv_iconst (v := (2 : Int32)) hx hb dL_law_686 (by decide) ?_
  refine lv_iadd hx hb dL_law_687 ?_
  refine va_sld hx hb hX hbl hbA hS (l_ix (k := 2) (by omega) hL rfl).1 dL_law_688 ?_
  rw [(l_ix (i := i) (k := 2) (L := L) (v := (2 : Int32)) (by omega) hL rfl).2]
  refine l_ml (x := (σ', v)) hH hS hRM hB hKo (fun _ _ f1 f2 => va_runV (b := bb) (As := [.int (xs (i + 1)), .int (xs (i + 2))]) (rest := [.long v]) S (metX6_pressing z2) (cwV 2 hts (lw_V q2455 q2456 q2457 q179 q2458) rfl rfl rfl (by decide +kernel) ⟨Nat.le_of_ble_eq_true rfl, Nat.le_of_ble_eq_true rfl⟩) (m_preV hK hM) rfl rfl hl.1 rfl (lv_room (Nat.le_of_ble_eq_true rfl)) dL_law_689 ⟨f1, f2⟩) (fun H2 locs2 n hn hH hM hz2 hS => ?_)
  refine W.lcmp hx hb dL_law_692 ?_
  refine lv_if_eq (tgt := 1167) hx hb dL_law_693 (by decide) (fun _ => ?_) (fun c => absurd (lg_cmp_self v) c)
  exact kk _ _ _ hn hH hM (Nat.le_trans hz hz2) hS
set_option maxHeartbeats 4000000 in
theorem law_c16 {p : Program} {l : Launch} {e : Env} {s : State} {m : MethodId} {below : List Frame} {meth : Method} {c : Code} {D : va_G} {ac : Nat → ClassId} {K : KE} {G : mG} {A0 A2 : Nat → Prop} {a b bb L i : Nat} {xs : Nat → Int32} {Q : State → Prop} (C : LX p s m c D ac K G A0 A2 b bb L xs) {h h' : HS} {σ σ' : MS} {v : Int32} (ho : ∃ fs, rd K h a = some (.inr (0, fs))) (hi : i + 6 ≤ L) (z1 : fX0_rest K h a (xs (i + 1)) = some (h', v)) (z2 : fX6_rest σ (xs (i + 1)) = some (σ', v)) {H : Heap} {locs : List Loc} (hH : HR A2 D ac K h H) (hM : MW G bb σ H) (hS : va_S A0 s.heap H locs) (hz : bb + 1 + mNA ≤ H.size) {ls : Array Slot} (hl : lv_has ls 4 [(0, .ref b), (1, .ref a), (2, .ref bb), (3, .int (nI i))])
    (kk : ∀ (H1 : Heap) (locs1 : List Loc) (n : Nat), n ≤ h'.2.2 → HR A2 D ac K (h'.1, h'.2.1, n) H1 → MW G bb σ' H1 → bb + 1 + mNA ≤ H1.size → va_S A0 s.heap H1 locs1 → W p l e room_1 s m #[Value.ref b] below meth c H1 locs1 room_1.cells room_1.slots Q (F0 m 1167 ls [])) : W p l e room_1 s m #[Value.ref b] below meth c H locs room_1.cells room_1.slots Q (F0 m 698 ls []) := by
  obtain ⟨S, hG, hK, hRM, ⟨hX, hbl, hbA, hL⟩, hA, hB, hKo⟩ := C
  obtain ⟨hx, hb, hml, hown, hts⟩ := id S
  refine lv_aload_n hx hb dL_law_698 rfl (lv_at hl 1 rfl) ?_
  refine lv_aload_n hx hb dL_law_699 rfl (lv_at hl 0 rfl) ?_
  refine lv_iload_n hx hb dL_law_700 rfl (lv_at hl 3 rfl) ?_
  refine lv_iconst (v := (1 : Int32)) hx hb dL_law_701 (by decide) ?_
  refine lv_iadd hx hb dL_law_702 ?_
  refine va_sld hx hb hX hbl hbA hS (l_ix (k := 1) (by omega) hL rfl).1 dL_law_703 ?_
  rw [(l_ix (i := i) (k := 1) (L := L) (v := (1 : Int32)) (by omega) hL rfl).2]
  refine l_ci (x := (h', v)) hH hM hS hRM hA (fun q h => (hB q h).2) hz (fun _ _ f1 f2 => va_runV (b := a) (As := [.int (xs (i + 1))]) (rest := []) S (metX0_rest z1) (cwV 1 hts (lw_V q1540 q1541 q1542 q167 q1543) rfl rfl rfl (by decide +kernel) ⟨Nat.le_of_ble_eq_true rfl, Nat.le_of_ble_eq_true rfl⟩) (l_preV hG hA hH hS ho) rfl rfl hl.1 rfl (lv_room (Nat.le_of_ble_eq_true rfl)) dL_law_704 ⟨f1, f2⟩) (fun H1 locs1 hH hM hz1 hS => ?_)
  replace hz := Nat.le_trans hz hz1
  refine lv_aload_n hx hb dL_law_707 rfl (lv_at hl 2 rfl) ?_
  refine lv_aload_n hx hb dL_law_708 rfl (lv_at hl 0 rfl) ?_
  refine lv_iload_n hx hb dL_law_709 rfl (lv_at hl 3 rfl) ?_
  refine lv_iconst (v := (1 : Int32)) hx hb dL_law_710 (by decide) ?_
  refine lv_iadd hx hb dL_law_711 ?_
  refine va_sld hx hb hX hbl hbA hS (l_ix (k := 1) (by omega) hL rfl).1 dL_law_712 ?_
  rw [(l_ix (i := i) (k := 1) (L := L) (v := (1 : Int32)) (by omega) hL rfl).2]
  refine l_mi (x := (σ', v)) hH hS hRM hB hKo (fun _ _ f1 f2 => va_runV (b := bb) (As := [.int (xs (i + 1))]) (rest := [.int v]) S (metX6_rest z2) (cwV 1 hts (lw_V q2463 q2464 q2465 q179 q2466) rfl rfl rfl (by decide +kernel) ⟨Nat.le_of_ble_eq_true rfl, Nat.le_of_ble_eq_true rfl⟩) (m_preV hK hM) rfl rfl hl.1 rfl (lv_room (Nat.le_of_ble_eq_true rfl)) dL_law_713 ⟨f1, f2⟩) (fun H2 locs2 n hn hH hM hz2 hS => ?_)
  refine lv_icmp_eq (tgt := 1167) hx hb dL_law_716 (by decide) (fun _ => ?_) (fun c => absurd rfl c)
  exact kk _ _ _ hn hH hM (Nat.le_trans hz hz2) hS
set_option maxHeartbeats 4000000 in
theorem law_c17 {p : Program} {l : Launch} {e : Env} {s : State} {m : MethodId} {below : List Frame} {meth : Method} {c : Code} {D : va_G} {ac : Nat → ClassId} {K : KE} {G : mG} {A0 A2 : Nat → Prop} {a b bb L i : Nat} {xs : Nat → Int32} {Q : State → Prop} (C : LX p s m c D ac K G A0 A2 b bb L xs) {h h' : HS} {σ σ' : MS} {v : Int32} (ho : ∃ fs, rd K h a = some (.inr (0, fs))) (hi : i + 6 ≤ L) (z1 : fX0_gone K h a (xs (i + 1)) (xs (i + 2)) = some (h', v)) (z2 : fX6_gone σ (xs (i + 1)) (xs (i + 2)) = some (σ', v)) {H : Heap} {locs : List Loc} (hH : HR A2 D ac K h H) (hM : MW G bb σ H) (hS : va_S A0 s.heap H locs) (hz : bb + 1 + mNA ≤ H.size) {ls : Array Slot} (hl : lv_has ls 4 [(0, .ref b), (1, .ref a), (2, .ref bb), (3, .int (nI i))])
    (kk : ∀ (H1 : Heap) (locs1 : List Loc) (n : Nat), n ≤ h'.2.2 → HR A2 D ac K (h'.1, h'.2.1, n) H1 → MW G bb σ' H1 → bb + 1 + mNA ≤ H1.size → va_S A0 s.heap H1 locs1 → W p l e room_1 s m #[Value.ref b] below meth c H1 locs1 room_1.cells room_1.slots Q (F0 m 1167 ls [])) : W p l e room_1 s m #[Value.ref b] below meth c H locs room_1.cells room_1.slots Q (F0 m 721 ls []) := by
  obtain ⟨S, hG, hK, hRM, ⟨hX, hbl, hbA, hL⟩, hA, hB, hKo⟩ := C
  obtain ⟨hx, hb, hml, hown, hts⟩ := id S
  refine lv_aload_n hx hb dL_law_721 rfl (lv_at hl 1 rfl) ?_
  refine lv_aload_n hx hb dL_law_722 rfl (lv_at hl 0 rfl) ?_
  refine lv_iload_n hx hb dL_law_723 rfl (lv_at hl 3 rfl) ?_
  refine lv_iconst (v := (1 : Int32)) hx hb dL_law_724 (by decide) ?_
  refine lv_iadd hx hb dL_law_725 ?_
  refine va_sld hx hb hX hbl hbA hS (l_ix (k := 1) (by omega) hL rfl).1 dL_law_726 ?_
  rw [(l_ix (i := i) (k := 1) (L := L) (v := (1 : Int32)) (by omega) hL rfl).2]
  refine lv_aload_n hx hb dL_law_727 rfl (lv_at hl 0 rfl) ?_
  refine lv_iload_n hx hb dL_law_728 rfl (lv_at hl 3 rfl) ?_
  refine lv_iconst (v := (2 : Int32)) hx hb dL_law_729 (by decide) ?_
  refine lv_iadd hx hb dL_law_730 ?_
  refine va_sld hx hb hX hbl hbA hS (l_ix (k := 2) (by omega) hL rfl).1 dL_law_731 ?_
  rw [(l_ix (i := i) (k := 2) (L := L) (v := (2 : Int32)) (by omega) hL rfl).2]
  refine l_ci (x := (h', v)) hH hM hS hRM hA (fun q h => (hB q h).2) hz (fun _ _ f1 f2 => va_runV (b := a) (As := [.int (xs (i + 1)), .int (xs (i + 2))]) (rest := []) S (metX0_gone z1) (cwV 2 hts (lw_V q1548 q1549 q1550 q167 q1551) rfl rfl rfl (by decide +kernel) ⟨Nat.le_of_ble_eq_true rfl, Nat.le_of_ble_eq_true rfl⟩) (l_preV hG hA hH hS ho) rfl rfl hl.1 rfl (lv_room (Nat.le_of_ble_eq_true rfl)) dL_law_732 ⟨f1, f2⟩) (fun H1 locs1 hH hM hz1 hS => ?_)
  replace hz := Nat.le_trans hz hz1
  refine lv_aload_n hx hb dL_law_735 rfl (lv_at hl 2 rfl) ?_
  refine lv_aload_n hx hb dL_law_736 rfl (lv_at hl 0 rfl) ?_
  refine lv_iload_n hx hb dL_law_737 rfl (lv_at hl 3 rfl) ?_
  refine lv_iconst (v := (1 : Int32)) hx hb dL_law_738 (by decide) ?_
  refine lv_iadd hx hb dL_law_739 ?_
  refine va_sld hx hb hX hbl hbA hS (l_ix (k := 1) (by omega) hL rfl).1 dL_law_740 ?_
  rw [(l_ix (i := i) (k := 1) (L := L) (v := (1 : Int32)) (by omega) hL rfl).2]
  refine lv_aload_n hx hb dL_law_741 rfl (lv_at hl 0 rfl) ?_
  refine lv_iload_n hx hb dL_law_742 rfl (lv_at hl 3 rfl) ?_
  refine lv_iconst (v := (2 : Int32)) hx hb dL_law_743 (by decide) ?_
  refine lv_iadd hx hb dL_law_744 ?_
  refine va_sld hx hb hX hbl hbA hS (l_ix (k := 2) (by omega) hL rfl).1 dL_law_745 ?_
  rw [(l_ix (i := i) (k := 2) (L := L) (v := (2 : Int32)) (by omega) hL rfl).2]
  refine l_mi (x := (σ', v)) hH hS hRM hB hKo (fun _ _ f1 f2 => va_runV (b := bb) (As := [.int (xs (i + 1)), .int (xs (i + 2))]) (rest := [.int v]) S (metX6_gone z2) (cwV 2 hts (lw_V q2471 q2472 q2473 q179 q2474) rfl rfl rfl (by decide +kernel) ⟨Nat.le_of_ble_eq_true rfl, Nat.le_of_ble_eq_true rfl⟩) (m_preV hK hM) rfl rfl hl.1 rfl (lv_room (Nat.le_of_ble_eq_true rfl)) dL_law_746 ⟨f1, f2⟩) (fun H2 locs2 n hn hH hM hz2 hS => ?_)
  refine lv_icmp_eq (tgt := 1167) hx hb dL_law_749 (by decide) (fun _ => ?_) (fun c => absurd rfl c)
  exact kk _ _ _ hn hH hM (Nat.le_trans hz hz2) hS
set_option maxHeartbeats 4000000 in
theorem law_c18 {p : Program} {l : Launch} {e : Env} {s : State} {m : MethodId} {below : List Frame} {meth : Method} {c : Code} {D : va_G} {ac : Nat → ClassId} {K : KE} {G : mG} {A0 A2 : Nat → Prop} {a b bb L i : Nat} {xs : Nat → Int32} {Q : State → Prop} (C : LX p s m c D ac K G A0 A2 b bb L xs) {h h' : HS} {σ σ' : MS} {v : Int32} (ho : ∃ fs, rd K h a = some (.inr (0, fs))) (hi : i + 6 ≤ L) (z1 : fX0_sow K h a (xs (i + 1)) (xs (i + 2)) = some (h', v)) (z2 : fX6_sow σ (xs (i + 1)) (xs (i + 2)) = some (σ', v)) {H : Heap} {locs : List Loc} (hH : HR A2 D ac K h H) (hM : MW G bb σ H) (hS : va_S A0 s.heap H locs) (hz : bb + 1 + mNA ≤ H.size) {ls : Array Slot} (hl : lv_has ls 4 [(0, .ref b), (1, .ref a), (2, .ref bb), (3, .int (nI i))])
    (kk : ∀ (H1 : Heap) (locs1 : List Loc) (n : Nat), n ≤ h'.2.2 → HR A2 D ac K (h'.1, h'.2.1, n) H1 → MW G bb σ' H1 → bb + 1 + mNA ≤ H1.size → va_S A0 s.heap H1 locs1 → W p l e room_1 s m #[Value.ref b] below meth c H1 locs1 room_1.cells room_1.slots Q (F0 m 1167 ls [])) : W p l e room_1 s m #[Value.ref b] below meth c H locs room_1.cells room_1.slots Q (F0 m 754 ls []) := by
  obtain ⟨S, hG, hK, hRM, ⟨hX, hbl, hbA, hL⟩, hA, hB, hKo⟩ := C
  obtain ⟨hx, hb, hml, hown, hts⟩ := id S
  refine lv_aload_n hx hb dL_law_754 rfl (lv_at hl 1 rfl) ?_
  refine lv_aload_n hx hb dL_law_755 rfl (lv_at hl 0 rfl) ?_
  refine lv_iload_n hx hb dL_law_756 rfl (lv_at hl 3 rfl) ?_
  refine lv_iconst (v := (1 : Int32)) hx hb dL_law_757 (by decide) ?_
  refine lv_iadd hx hb dL_law_758 ?_
  refine va_sld hx hb hX hbl hbA hS (l_ix (k := 1) (by omega) hL rfl).1 dL_law_759 ?_
  rw [(l_ix (i := i) (k := 1) (L := L) (v := (1 : Int32)) (by omega) hL rfl).2]
  refine lv_aload_n hx hb dL_law_760 rfl (lv_at hl 0 rfl) ?_
  refine lv_iload_n hx hb dL_law_761 rfl (lv_at hl 3 rfl) ?_
  refine lv_iconst (v := (2 : Int32)) hx hb dL_law_762 (by decide) ?_
  refine lv_iadd hx hb dL_law_763 ?_
  refine va_sld hx hb hX hbl hbA hS (l_ix (k := 2) (by omega) hL rfl).1 dL_law_764 ?_
  rw [(l_ix (i := i) (k := 2) (L := L) (v := (2 : Int32)) (by omega) hL rfl).2]
  refine l_ci (x := (h', v)) hH hM hS hRM hA (fun q h => (hB q h).2) hz (fun _ _ f1 f2 => va_runV (b := a) (As := [.int (xs (i + 1)), .int (xs (i + 2))]) (rest := []) S (metX0_sow z1) (cwV 2 hts (lw_V q1554 q1555 q1556 q167 q1557) rfl rfl rfl (by decide +kernel) ⟨Nat.le_of_ble_eq_true rfl, Nat.le_of_ble_eq_true rfl⟩) (l_preV hG hA hH hS ho) rfl rfl hl.1 rfl (lv_room (Nat.le_of_ble_eq_true rfl)) dL_law_765 ⟨f1, f2⟩) (fun H1 locs1 hH hM hz1 hS => ?_)
  replace hz := Nat.le_trans hz hz1
  refine lv_aload_n hx hb dL_law_768 rfl (lv_at hl 2 rfl) ?_
  refine lv_aload_n hx hb dL_law_769 rfl (lv_at hl 0 rfl) ?_
  refine lv_iload_n hx hb dL_law_770 rfl (lv_at hl 3 rfl) ?_
  refine lv_iconst (v := (1 : Int32)) hx hb dL_law_771 (by decide) ?_
  refine lv_iadd hx hb dL_law_772 ?_
  refine va_sld hx hb hX hbl hbA hS (l_ix (k := 1) (by omega) hL rfl).1 dL_law_773 ?_
  rw [(l_ix (i := i) (k := 1) (L := L) (v := (1 : Int32)) (by omega) hL rfl).2]
  refine lv_aload_n hx hb dL_law_774 rfl (lv_at hl 0 rfl) ?_
  refine lv_iload_n hx hb dL_law_775 rfl (lv_at hl 3 rfl) ?_
  refine lv_iconst (v := (2 : Int32)) hx hb dL_law_776 (by decide) ?_
  refine lv_iadd hx hb dL_law_777 ?_
  refine va_sld hx hb hX hbl hbA hS (l_ix (k := 2) (by omega) hL rfl).1 dL_law_778 ?_
  rw [(l_ix (i := i) (k := 2) (L := L) (v := (2 : Int32)) (by omega) hL rfl).2]
  refine l_mi (x := (σ', v)) hH hS hRM hB hKo (fun _ _ f1 f2 => va_runV (b := bb) (As := [.int (xs (i + 1)), .int (xs (i + 2))]) (rest := [.int v]) S (metX6_sow z2) (cwV 2 hts (lw_V q2475 q2476 q2477 q179 q2478) rfl rfl rfl (by decide +kernel) ⟨Nat.le_of_ble_eq_true rfl, Nat.le_of_ble_eq_true rfl⟩) (m_preV hK hM) rfl rfl hl.1 rfl (lv_room (Nat.le_of_ble_eq_true rfl)) dL_law_779 ⟨f1, f2⟩) (fun H2 locs2 n hn hH hM hz2 hS => ?_)
  refine lv_icmp_eq (tgt := 1167) hx hb dL_law_782 (by decide) (fun _ => ?_) (fun c => absurd rfl c)
  exact kk _ _ _ hn hH hM (Nat.le_trans hz hz2) hS
set_option maxHeartbeats 4000000 in
theorem law_c19 {p : Program} {l : Launch} {e : Env} {s : State} {m : MethodId} {below : List Frame} {meth : Method} {c : Code} {D : va_G} {ac : Nat → ClassId} {K : KE} {G : mG} {A0 A2 : Nat → Prop} {a b bb L i : Nat} {xs : Nat → Int32} {Q : State → Prop} (C : LX p s m c D ac K G A0 A2 b bb L xs) {h : HS} {σ : MS} {v : Int32} (ho : ∃ fs, rd K h a = some (.inr (0, fs))) (hi : i + 6 ≤ L) (z1 : fX0_who K h a (xs (i + 1)) (xs (i + 2)) (xs (i + 3)) = some v) (z2 : fX6_who σ (xs (i + 1)) (xs (i + 2)) (xs (i + 3)) = some v) {H : Heap} {locs : List Loc} (hH : HR A2 D ac K h H) (hM : MW G bb σ H) (hS : va_S A0 s.heap H locs) (hz : bb + 1 + mNA ≤ H.size) {ls : Array Slot} (hl : lv_has ls 4 [(0, .ref b), (1, .ref a), (2, .ref bb), (3, .int (nI i))])
    (kk : ∀ (H1 : Heap) (locs1 : List Loc) (n : Nat), n ≤ h.2.2 → HR A2 D ac K (h.1, h.2.1, n) H1 → MW G bb σ H1 → bb + 1 + mNA ≤ H1.size → va_S A0 s.heap H1 locs1 → W p l e room_1 s m #[Value.ref b] below meth c H1 locs1 room_1.cells room_1.slots Q (F0 m 1167 ls [])) : W p l e room_1 s m #[Value.ref b] below meth c H locs room_1.cells room_1.slots Q (F0 m 787 ls []) := by
  obtain ⟨S, hG, hK, hRM, ⟨hX, hbl, hbA, hL⟩, hA, hB, hKo⟩ := C
  obtain ⟨hx, hb, hml, hown, hts⟩ := id S
  refine lv_aload_n hx hb dL_law_787 rfl (lv_at hl 1 rfl) ?_
  refine lv_aload_n hx hb dL_law_788 rfl (lv_at hl 0 rfl) ?_
  refine lv_iload_n hx hb dL_law_789 rfl (lv_at hl 3 rfl) ?_
  refine lv_iconst (v := (1 : Int32)) hx hb dL_law_790 (by decide) ?_
  refine lv_iadd hx hb dL_law_791 ?_
  refine va_sld hx hb hX hbl hbA hS (l_ix (k := 1) (by omega) hL rfl).1 dL_law_792 ?_
  rw [(l_ix (i := i) (k := 1) (L := L) (v := (1 : Int32)) (by omega) hL rfl).2]
  refine lv_aload_n hx hb dL_law_793 rfl (lv_at hl 0 rfl) ?_
  refine lv_iload_n hx hb dL_law_794 rfl (lv_at hl 3 rfl) ?_
  refine lv_iconst (v := (2 : Int32)) hx hb dL_law_795 (by decide) ?_
  refine lv_iadd hx hb dL_law_796 ?_
  refine va_sld hx hb hX hbl hbA hS (l_ix (k := 2) (by omega) hL rfl).1 dL_law_797 ?_
  rw [(l_ix (i := i) (k := 2) (L := L) (v := (2 : Int32)) (by omega) hL rfl).2]
  refine lv_aload_n hx hb dL_law_798 rfl (lv_at hl 0 rfl) ?_
  refine lv_iload_n hx hb dL_law_799 rfl (lv_at hl 3 rfl) ?_
  refine lv_iconst (v := (3 : Int32)) hx hb dL_law_800 (by decide) ?_
  refine lv_iadd hx hb dL_law_801 ?_
  refine va_sld hx hb hX hbl hbA hS (l_ix (k := 3) (by omega) hL rfl).1 dL_law_802 ?_
  rw [(l_ix (i := i) (k := 3) (L := L) (v := (3 : Int32)) (by omega) hL rfl).2]
  refine l_ci (x := (h, v)) hH hM hS hRM hA (fun q h => (hB q h).2) hz (fun _ _ f1 f2 => va_runV (b := a) (As := [.int (xs (i + 1)), .int (xs (i + 2)), .int (xs (i + 3))]) (rest := []) S (metX0_who z1) (cwV 3 hts (lw_V q1561 q1562 q1563 q167 q1564) rfl rfl rfl (by decide +kernel) ⟨Nat.le_of_ble_eq_true rfl, Nat.le_of_ble_eq_true rfl⟩) (l_preV hG hA hH hS ho) rfl rfl hl.1 rfl (lv_room (Nat.le_of_ble_eq_true rfl)) dL_law_803 ⟨f1, f2⟩) (fun H1 locs1 hH hM hz1 hS => ?_)
  replace hz := Nat.le_trans hz hz1
  refine lv_aload_n hx hb dL_law_806 rfl (lv_at hl 2 rfl) ?_
  refine lv_aload_n hx hb dL_law_807 rfl (lv_at hl 0 rfl) ?_
  refine lv_iload_n hx hb dL_law_808 rfl (lv_at hl 3 rfl) ?_
  refine lv_iconst (v := (1 : Int32)) hx hb dL_law_809 (by decide) ?_
  refine lv_iadd hx hb dL_law_810 ?_
  refine va_sld hx hb hX hbl hbA hS (l_ix (k := 1) (by omega) hL rfl).1 dL_law_811 ?_
  rw [(l_ix (i := i) (k := 1) (L := L) (v := (1 : Int32)) (by omega) hL rfl).2]
  refine lv_aload_n hx hb dL_law_812 rfl (lv_at hl 0 rfl) ?_
  refine lv_iload_n hx hb dL_law_813 rfl (lv_at hl 3 rfl) ?_
  refine lv_iconst (v := (2 : Int32)) hx hb dL_law_814 (by decide) ?_
  refine lv_iadd hx hb dL_law_815 ?_
  refine va_sld hx hb hX hbl hbA hS (l_ix (k := 2) (by omega) hL rfl).1 dL_law_816 ?_
  rw [(l_ix (i := i) (k := 2) (L := L) (v := (2 : Int32)) (by omega) hL rfl).2]
  refine lv_aload_n hx hb dL_law_817 rfl (lv_at hl 0 rfl) ?_
  refine lv_iload_n hx hb dL_law_818 rfl (lv_at hl 3 rfl) ?_
  refine lv_iconst (v := (3 : Int32)) hx hb dL_law_819 (by decide) ?_
  refine lv_iadd hx hb dL_law_820 ?_
  refine va_sld hx hb hX hbl hbA hS (l_ix (k := 3) (by omega) hL rfl).1 dL_law_821 ?_
  rw [(l_ix (i := i) (k := 3) (L := L) (v := (3 : Int32)) (by omega) hL rfl).2]
  refine l_mi (x := (σ, v)) hH hS hRM hB hKo (fun _ _ f1 f2 => va_runV (b := bb) (As := [.int (xs (i + 1)), .int (xs (i + 2)), .int (xs (i + 3))]) (rest := [.int v]) S (metX6_who z2) (cwV 3 hts (lw_V q2479 q2480 q2481 q179 q2482) rfl rfl rfl (by decide +kernel) ⟨Nat.le_of_ble_eq_true rfl, Nat.le_of_ble_eq_true rfl⟩) (m_preV hK hM) rfl rfl hl.1 rfl (lv_room (Nat.le_of_ble_eq_true rfl)) dL_law_822 ⟨f1, f2⟩) (fun H2 locs2 n hn hH hM hz2 hS => ?_)
  refine lv_icmp_eq (tgt := 1167) hx hb dL_law_825 (by decide) (fun _ => ?_) (fun c => absurd rfl c)
  exact kk _ _ _ hn hH hM (Nat.le_trans hz hz2) hS
set_option maxHeartbeats 4000000 in
theorem law_c20 {p : Program} {l : Launch} {e : Env} {s : State} {m : MethodId} {below : List Frame} {meth : Method} {c : Code} {D : va_G} {ac : Nat → ClassId} {K : KE} {G : mG} {A0 A2 : Nat → Prop} {a b bb L i : Nat} {xs : Nat → Int32} {Q : State → Prop} (C : LX p s m c D ac K G A0 A2 b bb L xs) {h : HS} {σ : MS} {v : Int32} (ho : ∃ fs, rd K h a = some (.inr (0, fs))) (hi : i + 6 ≤ L) (z1 : fX0_sofa K h a (xs (i + 1)) (xs (i + 2)) = some v) (z2 : fX6_sofa σ (xs (i + 1)) (xs (i + 2)) = some v) {H : Heap} {locs : List Loc} (hH : HR A2 D ac K h H) (hM : MW G bb σ H) (hS : va_S A0 s.heap H locs) (hz : bb + 1 + mNA ≤ H.size) {ls : Array Slot} (hl : lv_has ls 4 [(0, .ref b), (1, .ref a), (2, .ref bb), (3, .int (nI i))])
    (kk : ∀ (H1 : Heap) (locs1 : List Loc) (n : Nat), n ≤ h.2.2 → HR A2 D ac K (h.1, h.2.1, n) H1 → MW G bb σ H1 → bb + 1 + mNA ≤ H1.size → va_S A0 s.heap H1 locs1 → W p l e room_1 s m #[Value.ref b] below meth c H1 locs1 room_1.cells room_1.slots Q (F0 m 1167 ls [])) : W p l e room_1 s m #[Value.ref b] below meth c H locs room_1.cells room_1.slots Q (F0 m 830 ls []) := by
  obtain ⟨S, hG, hK, hRM, ⟨hX, hbl, hbA, hL⟩, hA, hB, hKo⟩ := C
  obtain ⟨hx, hb, hml, hown, hts⟩ := id S
  refine lv_aload_n hx hb dL_law_830 rfl (lv_at hl 1 rfl) ?_
  refine lv_aload_n hx hb dL_law_831 rfl (lv_at hl 0 rfl) ?_
  refine lv_iload_n hx hb dL_law_832 rfl (lv_at hl 3 rfl) ?_
  refine lv_iconst (v := (1 : Int32)) hx hb dL_law_833 (by decide) ?_
  refine lv_iadd hx hb dL_law_834 ?_
  refine va_sld hx hb hX hbl hbA hS (l_ix (k := 1) (by omega) hL rfl).1 dL_law_835 ?_
  rw [(l_ix (i := i) (k := 1) (L := L) (v := (1 : Int32)) (by omega) hL rfl).2]
  refine lv_aload_n hx hb dL_law_836 rfl (lv_at hl 0 rfl) ?_
  refine lv_iload_n hx hb dL_law_837 rfl (lv_at hl 3 rfl) ?_
  refine lv_iconst (v := (2 : Int32)) hx hb dL_law_838 (by decide) ?_
  refine lv_iadd hx hb dL_law_839 ?_
  refine va_sld hx hb hX hbl hbA hS (l_ix (k := 2) (by omega) hL rfl).1 dL_law_840 ?_
  rw [(l_ix (i := i) (k := 2) (L := L) (v := (2 : Int32)) (by omega) hL rfl).2]
  refine l_ci (x := (h, v)) hH hM hS hRM hA (fun q h => (hB q h).2) hz (fun _ _ f1 f2 => va_runV (b := a) (As := [.int (xs (i + 1)), .int (xs (i + 2))]) (rest := []) S (metX0_sofa z1) (cwV 2 hts (lw_V q1566 q1567 q1568 q167 q1569) rfl rfl rfl (by decide +kernel) ⟨Nat.le_of_ble_eq_true rfl, Nat.le_of_ble_eq_true rfl⟩) (l_preV hG hA hH hS ho) rfl rfl hl.1 rfl (lv_room (Nat.le_of_ble_eq_true rfl)) dL_law_841 ⟨f1, f2⟩) (fun H1 locs1 hH hM hz1 hS => ?_)
  replace hz := Nat.le_trans hz hz1
  refine lv_aload_n hx hb dL_law_844 rfl (lv_at hl 2 rfl) ?_
  refine lv_aload_n hx hb dL_law_845 rfl (lv_at hl 0 rfl) ?_
  refine lv_iload_n hx hb dL_law_846 rfl (lv_at hl 3 rfl) ?_
  refine lv_iconst (v := (1 : Int32)) hx hb dL_law_847 (by decide) ?_
  refine lv_iadd hx hb dL_law_848 ?_
  refine va_sld hx hb hX hbl hbA hS (l_ix (k := 1) (by omega) hL rfl).1 dL_law_849 ?_
  rw [(l_ix (i := i) (k := 1) (L := L) (v := (1 : Int32)) (by omega) hL rfl).2]
  refine lv_aload_n hx hb dL_law_850 rfl (lv_at hl 0 rfl) ?_
  refine lv_iload_n hx hb dL_law_851 rfl (lv_at hl 3 rfl) ?_
  refine lv_iconst (v := (2 : Int32)) hx hb dL_law_852 (by decide) ?_
  refine lv_iadd hx hb dL_law_853 ?_
  refine va_sld hx hb hX hbl hbA hS (l_ix (k := 2) (by omega) hL rfl).1 dL_law_854 ?_
  rw [(l_ix (i := i) (k := 2) (L := L) (v := (2 : Int32)) (by omega) hL rfl).2]
  refine l_mi (x := (σ, v)) hH hS hRM hB hKo (fun _ _ f1 f2 => va_runV (b := bb) (As := [.int (xs (i + 1)), .int (xs (i + 2))]) (rest := [.int v]) S (metX6_sofa z2) (cwV 2 hts (lw_V q2484 q2485 q2486 q179 q2487) rfl rfl rfl (by decide +kernel) ⟨Nat.le_of_ble_eq_true rfl, Nat.le_of_ble_eq_true rfl⟩) (m_preV hK hM) rfl rfl hl.1 rfl (lv_room (Nat.le_of_ble_eq_true rfl)) dL_law_855 ⟨f1, f2⟩) (fun H2 locs2 n hn hH hM hz2 hS => ?_)
  refine lv_icmp_eq (tgt := 1167) hx hb dL_law_858 (by decide) (fun _ => ?_) (fun c => absurd rfl c)
  exact kk _ _ _ hn hH hM (Nat.le_trans hz hz2) hS
set_option maxHeartbeats 4000000 in
theorem law_c21 {p : Program} {l : Launch} {e : Env} {s : State} {m : MethodId} {below : List Frame} {meth : Method} {c : Code} {D : va_G} {ac : Nat → ClassId} {K : KE} {G : mG} {A0 A2 : Nat → Prop} {a b bb L i : Nat} {xs : Nat → Int32} {Q : State → Prop} (C : LX p s m c D ac K G A0 A2 b bb L xs) {h : HS} {σ : MS} {v : Int32} (ho : ∃ fs, rd K h a = some (.inr (0, fs))) (hi : i + 6 ≤ L) (z1 : fX0_share K h a (xs (i + 1)) = some v) (z2 : fX6_share σ (xs (i + 1)) = some v) {H : Heap} {locs : List Loc} (hH : HR A2 D ac K h H) (hM : MW G bb σ H) (hS : va_S A0 s.heap H locs) (hz : bb + 1 + mNA ≤ H.size) {ls : Array Slot} (hl : lv_has ls 4 [(0, .ref b), (1, .ref a), (2, .ref bb), (3, .int (nI i))])
    (kk : ∀ (H1 : Heap) (locs1 : List Loc) (n : Nat), n ≤ h.2.2 → HR A2 D ac K (h.1, h.2.1, n) H1 → MW G bb σ H1 → bb + 1 + mNA ≤ H1.size → va_S A0 s.heap H1 locs1 → W p l e room_1 s m #[Value.ref b] below meth c H1 locs1 room_1.cells room_1.slots Q (F0 m 1167 ls [])) : W p l e room_1 s m #[Value.ref b] below meth c H locs room_1.cells room_1.slots Q (F0 m 863 ls []) := by
  obtain ⟨S, hG, hK, hRM, ⟨hX, hbl, hbA, hL⟩, hA, hB, hKo⟩ := C
  obtain ⟨hx, hb, hml, hown, hts⟩ := id S
  refine lv_aload_n hx hb dL_law_863 rfl (lv_at hl 1 rfl) ?_
  refine lv_aload_n hx hb dL_law_864 rfl (lv_at hl 0 rfl) ?_
  refine lv_iload_n hx hb dL_law_865 rfl (lv_at hl 3 rfl) ?_
  refine lv_iconst (v := (1 : Int32)) hx hb dL_law_866 (by decide) ?_
  refine lv_iadd hx hb dL_law_867 ?_
  refine va_sld hx hb hX hbl hbA hS (l_ix (k := 1) (by omega) hL rfl).1 dL_law_868 ?_
  rw [(l_ix (i := i) (k := 1) (L := L) (v := (1 : Int32)) (by omega) hL rfl).2]
  refine l_ci (x := (h, v)) hH hM hS hRM hA (fun q h => (hB q h).2) hz (fun _ _ f1 f2 => va_runV (b := a) (As := [.int (xs (i + 1))]) (rest := []) S (metX0_share z1) (cwV 1 hts (lw_V q1580 q1581 q1582 q167 q1583) rfl rfl rfl (by decide +kernel) ⟨Nat.le_of_ble_eq_true rfl, Nat.le_of_ble_eq_true rfl⟩) (l_preV hG hA hH hS ho) rfl rfl hl.1 rfl (lv_room (Nat.le_of_ble_eq_true rfl)) dL_law_869 ⟨f1, f2⟩) (fun H1 locs1 hH hM hz1 hS => ?_)
  replace hz := Nat.le_trans hz hz1
  refine lv_aload_n hx hb dL_law_872 rfl (lv_at hl 2 rfl) ?_
  refine lv_aload_n hx hb dL_law_873 rfl (lv_at hl 0 rfl) ?_
  refine lv_iload_n hx hb dL_law_874 rfl (lv_at hl 3 rfl) ?_
  refine lv_iconst (v := (1 : Int32)) hx hb dL_law_875 (by decide) ?_
  refine lv_iadd hx hb dL_law_876 ?_
  refine va_sld hx hb hX hbl hbA hS (l_ix (k := 1) (by omega) hL rfl).1 dL_law_877 ?_
  rw [(l_ix (i := i) (k := 1) (L := L) (v := (1 : Int32)) (by omega) hL rfl).2]
  refine l_mi (x := (σ, v)) hH hS hRM hB hKo (fun _ _ f1 f2 => va_runV (b := bb) (As := [.int (xs (i + 1))]) (rest := [.int v]) S (metX6_share z2) (cwV 1 hts (lw_V q2496 q2497 q2498 q179 q2499) rfl rfl rfl (by decide +kernel) ⟨Nat.le_of_ble_eq_true rfl, Nat.le_of_ble_eq_true rfl⟩) (m_preV hK hM) rfl rfl hl.1 rfl (lv_room (Nat.le_of_ble_eq_true rfl)) dL_law_878 ⟨f1, f2⟩) (fun H2 locs2 n hn hH hM hz2 hS => ?_)
  refine lv_icmp_eq (tgt := 1167) hx hb dL_law_881 (by decide) (fun _ => ?_) (fun c => absurd rfl c)
  exact kk _ _ _ hn hH hM (Nat.le_trans hz hz2) hS
set_option maxHeartbeats 4000000 in
theorem law_c22 {p : Program} {l : Launch} {e : Env} {s : State} {m : MethodId} {below : List Frame} {meth : Method} {c : Code} {D : va_G} {ac : Nat → ClassId} {K : KE} {G : mG} {A0 A2 : Nat → Prop} {a b bb L i : Nat} {xs : Nat → Int32} {Q : State → Prop} (C : LX p s m c D ac K G A0 A2 b bb L xs) {h h' : HS} {σ σ' : MS} {v : Int32} (ho : ∃ fs, rd K h a = some (.inr (0, fs))) (hi : i + 6 ≤ L) (z1 : fX0_tell K h a = some (h', v)) (z2 : fX6_tell σ = some (σ', v)) {H : Heap} {locs : List Loc} (hH : HR A2 D ac K h H) (hM : MW G bb σ H) (hS : va_S A0 s.heap H locs) (hz : bb + 1 + mNA ≤ H.size) {ls : Array Slot} (hl : lv_has ls 4 [(0, .ref b), (1, .ref a), (2, .ref bb), (3, .int (nI i))])
    (kk : ∀ (H1 : Heap) (locs1 : List Loc) (n : Nat), n ≤ h'.2.2 → HR A2 D ac K (h'.1, h'.2.1, n) H1 → MW G bb σ' H1 → bb + 1 + mNA ≤ H1.size → va_S A0 s.heap H1 locs1 → W p l e room_1 s m #[Value.ref b] below meth c H1 locs1 room_1.cells room_1.slots Q (F0 m 1167 ls [])) : W p l e room_1 s m #[Value.ref b] below meth c H locs room_1.cells room_1.slots Q (F0 m 886 ls []) := by
  obtain ⟨S, hG, hK, hRM, ⟨hX, hbl, hbA, hL⟩, hA, hB, hKo⟩ := C
  obtain ⟨hx, hb, hml, hown, hts⟩ := id S
  refine lv_aload_n hx hb dL_law_886 rfl (lv_at hl 1 rfl) ?_
  refine l_ci (x := (h', v)) hH hM hS hRM hA (fun q h => (hB q h).2) hz (fun _ _ f1 f2 => va_runV (b := a) (As := []) (rest := []) S (metX0_tell z1) (cwV 0 hts (lw_V q1584 q1585 q1586 q167 q1587) rfl rfl rfl (by decide +kernel) ⟨Nat.le_of_ble_eq_true rfl, Nat.le_of_ble_eq_true rfl⟩) (l_preV hG hA hH hS ho) rfl rfl hl.1 rfl (lv_room (Nat.le_of_ble_eq_true rfl)) dL_law_887 ⟨f1, f2⟩) (fun H1 locs1 hH hM hz1 hS => ?_)
  replace hz := Nat.le_trans hz hz1
  refine lv_aload_n hx hb dL_law_890 rfl (lv_at hl 2 rfl) ?_
  refine l_mi (x := (σ', v)) hH hS hRM hB hKo (fun _ _ f1 f2 => va_runV (b := bb) (As := []) (rest := [.int v]) S (metX6_tell z2) (cwV 0 hts (lw_V q2500 q2501 q2502 q179 q2503) rfl rfl rfl (by decide +kernel) ⟨Nat.le_of_ble_eq_true rfl, Nat.le_of_ble_eq_true rfl⟩) (m_preV hK hM) rfl rfl hl.1 rfl (lv_room (Nat.le_of_ble_eq_true rfl)) dL_law_891 ⟨f1, f2⟩) (fun H2 locs2 n hn hH hM hz2 hS => ?_)
  refine lv_icmp_eq (tgt := 1167) hx hb dL_law_894 (by decide) (fun _ => ?_) (fun c => absurd rfl c)
  exact kk _ _ _ hn hH hM (Nat.le_trans hz hz2) hS
set_option maxHeartbeats 4000000 in
theorem law_c23 {p : Program} {l : Launch} {e : Env} {s : State} {m : MethodId} {below : List Frame} {meth : Method} {c : Code} {D : va_G} {ac : Nat → ClassId} {K : KE} {G : mG} {A0 A2 : Nat → Prop} {a b bb L i : Nat} {xs : Nat → Int32} {Q : State → Prop} (C : LX p s m c D ac K G A0 A2 b bb L xs) {h h' : HS} {σ σ' : MS} {v : Int32} (ho : ∃ fs, rd K h a = some (.inr (0, fs))) (hi : i + 6 ≤ L) (z1 : fX0_pressed K h a (xs (i + 1)) = some (h', v)) (z2 : fX6_pressed σ (xs (i + 1)) = some (σ', v)) {H : Heap} {locs : List Loc} (hH : HR A2 D ac K h H) (hM : MW G bb σ H) (hS : va_S A0 s.heap H locs) (hz : bb + 1 + mNA ≤ H.size) {ls : Array Slot} (hl : lv_has ls 4 [(0, .ref b), (1, .ref a), (2, .ref bb), (3, .int (nI i))])
    (kk : ∀ (H1 : Heap) (locs1 : List Loc) (n : Nat), n ≤ h'.2.2 → HR A2 D ac K (h'.1, h'.2.1, n) H1 → MW G bb σ' H1 → bb + 1 + mNA ≤ H1.size → va_S A0 s.heap H1 locs1 → W p l e room_1 s m #[Value.ref b] below meth c H1 locs1 room_1.cells room_1.slots Q (F0 m 1167 ls [])) : W p l e room_1 s m #[Value.ref b] below meth c H locs room_1.cells room_1.slots Q (F0 m 899 ls []) := by
  obtain ⟨S, hG, hK, hRM, ⟨hX, hbl, hbA, hL⟩, hA, hB, hKo⟩ := C
  obtain ⟨hx, hb, hml, hown, hts⟩ := id S
  refine lv_aload_n hx hb dL_law_899 rfl (lv_at hl 1 rfl) ?_
  refine lv_aload_n hx hb dL_law_900 rfl (lv_at hl 0 rfl) ?_
  refine lv_iload_n hx hb dL_law_901 rfl (lv_at hl 3 rfl) ?_
  refine lv_iconst (v := (1 : Int32)) hx hb dL_law_902 (by decide) ?_
  refine lv_iadd hx hb dL_law_903 ?_
  refine va_sld hx hb hX hbl hbA hS (l_ix (k := 1) (by omega) hL rfl).1 dL_law_904 ?_
  rw [(l_ix (i := i) (k := 1) (L := L) (v := (1 : Int32)) (by omega) hL rfl).2]
  refine l_ci (x := (h', v)) hH hM hS hRM hA (fun q h => (hB q h).2) hz (fun _ _ f1 f2 => va_runV (b := a) (As := [.int (xs (i + 1))]) (rest := []) S (metX0_pressed z1) (cwV 1 hts (lw_V q1592 q1593 q1594 q167 q1595) rfl rfl rfl (by decide +kernel) ⟨Nat.le_of_ble_eq_true rfl, Nat.le_of_ble_eq_true rfl⟩) (l_preV hG hA hH hS ho) rfl rfl hl.1 rfl (lv_room (Nat.le_of_ble_eq_true rfl)) dL_law_905 ⟨f1, f2⟩) (fun H1 locs1 hH hM hz1 hS => ?_)
  replace hz := Nat.le_trans hz hz1
  refine lv_aload_n hx hb dL_law_908 rfl (lv_at hl 2 rfl) ?_
  refine lv_aload_n hx hb dL_law_909 rfl (lv_at hl 0 rfl) ?_
  refine lv_iload_n hx hb dL_law_910 rfl (lv_at hl 3 rfl) ?_
  refine lv_iconst (v := (1 : Int32)) hx hb dL_law_911 (by decide) ?_
  refine lv_iadd hx hb dL_law_912 ?_
  refine va_sld hx hb hX hbl hbA hS (l_ix (k := 1) (by omega) hL rfl).1 dL_law_913 ?_
  rw [(l_ix (i := i) (k := 1) (L := L) (v := (1 : Int32)) (by omega) hL rfl).2]
  refine l_mi (x := (σ', v)) hH hS hRM hB hKo (fun _ _ f1 f2 => va_runV (b := bb) (As := [.int (xs (i + 1))]) (rest := [.int v]) S (metX6_pressed z2) (cwV 1 hts (lw_V q2504 q2505 q2506 q179 q2507) rfl rfl rfl (by decide +kernel) ⟨Nat.le_of_ble_eq_true rfl, Nat.le_of_ble_eq_true rfl⟩) (m_preV hK hM) rfl rfl hl.1 rfl (lv_room (Nat.le_of_ble_eq_true rfl)) dL_law_914 ⟨f1, f2⟩) (fun H2 locs2 n hn hH hM hz2 hS => ?_)
  refine lv_icmp_eq (tgt := 1167) hx hb dL_law_917 (by decide) (fun _ => ?_) (fun c => absurd rfl c)
  exact kk _ _ _ hn hH hM (Nat.le_trans hz hz2) hS
set_option maxHeartbeats 4000000 in
theorem law_c24 {p : Program} {l : Launch} {e : Env} {s : State} {m : MethodId} {below : List Frame} {meth : Method} {c : Code} {D : va_G} {ac : Nat → ClassId} {K : KE} {G : mG} {A0 A2 : Nat → Prop} {a b bb L i : Nat} {xs : Nat → Int32} {Q : State → Prop} (C : LX p s m c D ac K G A0 A2 b bb L xs) {h h' : HS} {σ σ' : MS} {v : Int32} (ho : ∃ fs, rd K h a = some (.inr (0, fs))) (hi : i + 6 ≤ L) (z1 : fX0_press K h a (xs (i + 1)) (xs (i + 2)) = some (h', v)) (z2 : fX6_press σ (xs (i + 1)) (xs (i + 2)) = some (σ', v)) {H : Heap} {locs : List Loc} (hH : HR A2 D ac K h H) (hM : MW G bb σ H) (hS : va_S A0 s.heap H locs) (hz : bb + 1 + mNA ≤ H.size) {ls : Array Slot} (hl : lv_has ls 4 [(0, .ref b), (1, .ref a), (2, .ref bb), (3, .int (nI i))])
    (kk : ∀ (H1 : Heap) (locs1 : List Loc) (n : Nat), n ≤ h'.2.2 → HR A2 D ac K (h'.1, h'.2.1, n) H1 → MW G bb σ' H1 → bb + 1 + mNA ≤ H1.size → va_S A0 s.heap H1 locs1 → W p l e room_1 s m #[Value.ref b] below meth c H1 locs1 room_1.cells room_1.slots Q (F0 m 1167 ls [])) : W p l e room_1 s m #[Value.ref b] below meth c H locs room_1.cells room_1.slots Q (F0 m 922 ls []) := by
  obtain ⟨S, hG, hK, hRM, ⟨hX, hbl, hbA, hL⟩, hA, hB, hKo⟩ := C
  obtain ⟨hx, hb, hml, hown, hts⟩ := id S
  refine lv_aload_n hx hb dL_law_922 rfl (lv_at hl 1 rfl) ?_
  refine lv_aload_n hx hb dL_law_923 rfl (lv_at hl 0 rfl) ?_
  refine lv_iload_n hx hb dL_law_924 rfl (lv_at hl 3 rfl) ?_
  refine lv_iconst (v := (1 : Int32)) hx hb dL_law_925 (by decide) ?_
  refine lv_iadd hx hb dL_law_926 ?_
  refine va_sld hx hb hX hbl hbA hS (l_ix (k := 1) (by omega) hL rfl).1 dL_law_927 ?_
  rw [(l_ix (i := i) (k := 1) (L := L) (v := (1 : Int32)) (by omega) hL rfl).2]
  refine lv_aload_n hx hb dL_law_928 rfl (lv_at hl 0 rfl) ?_
  refine lv_iload_n hx hb dL_law_929 rfl (lv_at hl 3 rfl) ?_
  refine lv_iconst (v := (2 : Int32)) hx hb dL_law_930 (by decide) ?_
  refine lv_iadd hx hb dL_law_931 ?_
  refine va_sld hx hb hX hbl hbA hS (l_ix (k := 2) (by omega) hL rfl).1 dL_law_932 ?_
  rw [(l_ix (i := i) (k := 2) (L := L) (v := (2 : Int32)) (by omega) hL rfl).2]
  refine l_ci (x := (h', v)) hH hM hS hRM hA (fun q h => (hB q h).2) hz (fun _ _ f1 f2 => va_runV (b := a) (As := [.int (xs (i + 1)), .int (xs (i + 2))]) (rest := []) S (metX0_press z1) (cwV 2 hts (lw_V q1609 q1610 q1611 q167 q1612) rfl rfl rfl (by decide +kernel) ⟨Nat.le_of_ble_eq_true rfl, Nat.le_of_ble_eq_true rfl⟩) (l_preV hG hA hH hS ho) rfl rfl hl.1 rfl (lv_room (Nat.le_of_ble_eq_true rfl)) dL_law_933 ⟨f1, f2⟩) (fun H1 locs1 hH hM hz1 hS => ?_)
  replace hz := Nat.le_trans hz hz1
  refine lv_aload_n hx hb dL_law_936 rfl (lv_at hl 2 rfl) ?_
  refine lv_aload_n hx hb dL_law_937 rfl (lv_at hl 0 rfl) ?_
  refine lv_iload_n hx hb dL_law_938 rfl (lv_at hl 3 rfl) ?_
  refine lv_iconst (v := (1 : Int32)) hx hb dL_law_939 (by decide) ?_
  refine lv_iadd hx hb dL_law_940 ?_
  refine va_sld hx hb hX hbl hbA hS (l_ix (k := 1) (by omega) hL rfl).1 dL_law_941 ?_
  rw [(l_ix (i := i) (k := 1) (L := L) (v := (1 : Int32)) (by omega) hL rfl).2]
  refine lv_aload_n hx hb dL_law_942 rfl (lv_at hl 0 rfl) ?_
  refine lv_iload_n hx hb dL_law_943 rfl (lv_at hl 3 rfl) ?_
  refine lv_iconst (v := (2 : Int32)) hx hb dL_law_944 (by decide) ?_
  refine lv_iadd hx hb dL_law_945 ?_
  refine va_sld hx hb hX hbl hbA hS (l_ix (k := 2) (by omega) hL rfl).1 dL_law_946 ?_
  rw [(l_ix (i := i) (k := 2) (L := L) (v := (2 : Int32)) (by omega) hL rfl).2]
  refine l_mi (x := (σ', v)) hH hS hRM hB hKo (fun _ _ f1 f2 => va_runV (b := bb) (As := [.int (xs (i + 1)), .int (xs (i + 2))]) (rest := [.int v]) S (metX6_press z2) (cwV 2 hts (lw_V q2524 q2525 q2526 q179 q2527) rfl rfl rfl (by decide +kernel) ⟨Nat.le_of_ble_eq_true rfl, Nat.le_of_ble_eq_true rfl⟩) (m_preV hK hM) rfl rfl hl.1 rfl (lv_room (Nat.le_of_ble_eq_true rfl)) dL_law_947 ⟨f1, f2⟩) (fun H2 locs2 n hn hH hM hz2 hS => ?_)
  refine lv_icmp_eq (tgt := 1167) hx hb dL_law_950 (by decide) (fun _ => ?_) (fun c => absurd rfl c)
  exact kk _ _ _ hn hH hM (Nat.le_trans hz hz2) hS
set_option maxHeartbeats 4000000 in
theorem law_c25 {p : Program} {l : Launch} {e : Env} {s : State} {m : MethodId} {below : List Frame} {meth : Method} {c : Code} {D : va_G} {ac : Nat → ClassId} {K : KE} {G : mG} {A0 A2 : Nat → Prop} {a b bb L i : Nat} {xs : Nat → Int32} {Q : State → Prop} (C : LX p s m c D ac K G A0 A2 b bb L xs) {h h' : HS} {σ σ' : MS} {v : Int64} (ho : ∃ fs, rd K h a = some (.inr (0, fs))) (hi : i + 6 ≤ L) (z1 : fX0_show K h a (xs (i + 1)) (xs (i + 2)) = some (h', v)) (z2 : fX6_show σ (xs (i + 1)) (xs (i + 2)) = some (σ', v)) {H : Heap} {locs : List Loc} (hH : HR A2 D ac K h H) (hM : MW G bb σ H) (hS : va_S A0 s.heap H locs) (hz : bb + 1 + mNA ≤ H.size) {ls : Array Slot} (hl : lv_has ls 4 [(0, .ref b), (1, .ref a), (2, .ref bb), (3, .int (nI i))])
    (kk : ∀ (H1 : Heap) (locs1 : List Loc) (n : Nat), n ≤ h'.2.2 → HR A2 D ac K (h'.1, h'.2.1, n) H1 → MW G bb σ' H1 → bb + 1 + mNA ≤ H1.size → va_S A0 s.heap H1 locs1 → W p l e room_1 s m #[Value.ref b] below meth c H1 locs1 room_1.cells room_1.slots Q (F0 m 1167 ls [])) : W p l e room_1 s m #[Value.ref b] below meth c H locs room_1.cells room_1.slots Q (F0 m 955 ls []) := by
  obtain ⟨S, hG, hK, hRM, ⟨hX, hbl, hbA, hL⟩, hA, hB, hKo⟩ := C
  obtain ⟨hx, hb, hml, hown, hts⟩ := id S
  refine lv_aload_n hx hb dL_law_955 rfl (lv_at hl 1 rfl) ?_
  refine lv_aload_n hx hb dL_law_956 rfl (lv_at hl 0 rfl) ?_
  refine lv_iload_n hx hb dL_law_957 rfl (lv_at hl 3 rfl) ?_
  refine lv_iconst (v := (1 : Int32)) hx hb dL_law_958 (by decide) ?_
  refine lv_iadd hx hb dL_law_959 ?_
  refine va_sld hx hb hX hbl hbA hS (l_ix (k := 1) (by omega) hL rfl).1 dL_law_960 ?_
  rw [(l_ix (i := i) (k := 1) (L := L) (v := (1 : Int32)) (by omega) hL rfl).2]
  refine lv_aload_n hx hb dL_law_961 rfl (lv_at hl 0 rfl) ?_
  refine lv_iload_n hx hb dL_law_962 rfl (lv_at hl 3 rfl) ?_
  refine lv_iconst (v := (2 : Int32)) hx hb dL_law_963 (by decide) ?_
  refine lv_iadd hx hb dL_law_964 ?_
  refine va_sld hx hb hX hbl hbA hS (l_ix (k := 2) (by omega) hL rfl).1 dL_law_965 ?_
  rw [(l_ix (i := i) (k := 2) (L := L) (v := (2 : Int32)) (by omega) hL rfl).2]
  refine l_cl (x := (h', v)) hH hM hS hRM hA (fun q h => (hB q h).2) hz (fun _ _ f1 f2 => va_runV (b := a) (As := [.int (xs (i + 1)), .int (xs (i + 2))]) (rest := []) S (metX0_show z1) (cwV 2 hts (lw_V q1617 q1618 q1619 q167 q1620) rfl rfl rfl (by decide +kernel) ⟨Nat.le_of_ble_eq_true rfl, Nat.le_of_ble_eq_true rfl⟩) (l_preV hG hA hH hS ho) rfl rfl hl.1 rfl (lv_room (Nat.le_of_ble_eq_true rfl)) dL_law_966 ⟨f1, f2⟩) (fun H1 locs1 hH hM hz1 hS => ?_)
  replace hz := Nat.le_trans hz hz1
  refine lv_aload_n hx hb dL_law_969 rfl (lv_at hl 2 rfl) ?_
  refine lv_aload_n hx hb dL_law_970 rfl (lv_at hl 0 rfl) ?_
  refine lv_iload_n hx hb dL_law_971 rfl (lv_at hl 3 rfl) ?_
  refine lv_iconst (v := (1 : Int32)) hx hb dL_law_972 (by decide) ?_
  refine lv_iadd hx hb dL_law_973 ?_
  refine va_sld hx hb hX hbl hbA hS (l_ix (k := 1) (by omega) hL rfl).1 dL_law_974 ?_
  rw [(l_ix (i := i) (k := 1) (L := L) (v := (1 : Int32)) (by omega) hL rfl).2]
  refine lv_aload_n hx hb dL_law_975 rfl (lv_at hl 0 rfl) ?_
  refine lv_iload_n hx hb dL_law_976 rfl (lv_at hl 3 rfl) ?_
  refine lv_iconst (v := (2 : Int32)) hx hb dL_law_977 (by decide) ?_
  refine lv_iadd hx hb dL_law_978 ?_
  refine va_sld hx hb hX hbl hbA hS (l_ix (k := 2) (by omega) hL rfl).1 dL_law_979 ?_
  rw [(l_ix (i := i) (k := 2) (L := L) (v := (2 : Int32)) (by omega) hL rfl).2]
  refine l_ml (x := (σ', v)) hH hS hRM hB hKo (fun _ _ f1 f2 => va_runV (b := bb) (As := [.int (xs (i + 1)), .int (xs (i + 2))]) (rest := [.long v]) S (metX6_show z2) (cwV 2 hts (lw_V q2532 q2533 q2534 q179 q2535) rfl rfl rfl (by decide +kernel) ⟨Nat.le_of_ble_eq_true rfl, Nat.le_of_ble_eq_true rfl⟩) (m_preV hK hM) rfl rfl hl.1 rfl (lv_room (Nat.le_of_ble_eq_true rfl)) dL_law_980 ⟨f1, f2⟩) (fun H2 locs2 n hn hH hM hz2 hS => ?_)
  refine W.lcmp hx hb dL_law_983 ?_
  refine lv_if_eq (tgt := 1167) hx hb dL_law_984 (by decide) (fun _ => ?_) (fun c => absurd (lg_cmp_self v) c)
  exact kk _ _ _ hn hH hM (Nat.le_trans hz hz2) hS
set_option maxHeartbeats 4000000 in
theorem law_c26 {p : Program} {l : Launch} {e : Env} {s : State} {m : MethodId} {below : List Frame} {meth : Method} {c : Code} {D : va_G} {ac : Nat → ClassId} {K : KE} {G : mG} {A0 A2 : Nat → Prop} {a b bb L i : Nat} {xs : Nat → Int32} {Q : State → Prop} (C : LX p s m c D ac K G A0 A2 b bb L xs) {h h' : HS} {σ σ' : MS} {v : Int32} (ho : ∃ fs, rd K h a = some (.inr (0, fs))) (hi : i + 6 ≤ L) (z1 : fX0_hours K h a (xs (i + 1)) = some (h', v)) (z2 : fX6_hours σ (xs (i + 1)) = some (σ', v)) {H : Heap} {locs : List Loc} (hH : HR A2 D ac K h H) (hM : MW G bb σ H) (hS : va_S A0 s.heap H locs) (hz : bb + 1 + mNA ≤ H.size) {ls : Array Slot} (hl : lv_has ls 4 [(0, .ref b), (1, .ref a), (2, .ref bb), (3, .int (nI i))])
    (kk : ∀ (H1 : Heap) (locs1 : List Loc) (n : Nat), n ≤ h'.2.2 → HR A2 D ac K (h'.1, h'.2.1, n) H1 → MW G bb σ' H1 → bb + 1 + mNA ≤ H1.size → va_S A0 s.heap H1 locs1 → W p l e room_1 s m #[Value.ref b] below meth c H1 locs1 room_1.cells room_1.slots Q (F0 m 1167 ls [])) : W p l e room_1 s m #[Value.ref b] below meth c H locs room_1.cells room_1.slots Q (F0 m 989 ls []) := by
  obtain ⟨S, hG, hK, hRM, ⟨hX, hbl, hbA, hL⟩, hA, hB, hKo⟩ := C
  obtain ⟨hx, hb, hml, hown, hts⟩ := id S
  refine lv_aload_n hx hb dL_law_989 rfl (lv_at hl 1 rfl) ?_
  refine lv_aload_n hx hb dL_law_990 rfl (lv_at hl 0 rfl) ?_
  refine lv_iload_n hx hb dL_law_991 rfl (lv_at hl 3 rfl) ?_
  refine lv_iconst (v := (1 : Int32)) hx hb dL_law_992 (by decide) ?_
  refine lv_iadd hx hb dL_law_993 ?_
  refine va_sld hx hb hX hbl hbA hS (l_ix (k := 1) (by omega) hL rfl).1 dL_law_994 ?_
  rw [(l_ix (i := i) (k := 1) (L := L) (v := (1 : Int32)) (by omega) hL rfl).2]
  refine l_ci (x := (h', v)) hH hM hS hRM hA (fun q h => (hB q h).2) hz (fun _ _ f1 f2 => va_runV (b := a) (As := [.int (xs (i + 1))]) (rest := []) S (metX0_hours z1) (cwV 1 hts (lw_V q1621 q1622 q1623 q167 q1624) rfl rfl rfl (by decide +kernel) ⟨Nat.le_of_ble_eq_true rfl, Nat.le_of_ble_eq_true rfl⟩) (l_preV hG hA hH hS ho) rfl rfl hl.1 rfl (lv_room (Nat.le_of_ble_eq_true rfl)) dL_law_995 ⟨f1, f2⟩) (fun H1 locs1 hH hM hz1 hS => ?_)
  replace hz := Nat.le_trans hz hz1
  refine lv_aload_n hx hb dL_law_998 rfl (lv_at hl 2 rfl) ?_
  refine lv_aload_n hx hb dL_law_999 rfl (lv_at hl 0 rfl) ?_
  refine lv_iload_n hx hb dL_law_1000 rfl (lv_at hl 3 rfl) ?_
  refine lv_iconst (v := (1 : Int32)) hx hb dL_law_1001 (by decide) ?_
  refine lv_iadd hx hb dL_law_1002 ?_
  refine va_sld hx hb hX hbl hbA hS (l_ix (k := 1) (by omega) hL rfl).1 dL_law_1003 ?_
  rw [(l_ix (i := i) (k := 1) (L := L) (v := (1 : Int32)) (by omega) hL rfl).2]
  refine l_mi (x := (σ', v)) hH hS hRM hB hKo (fun _ _ f1 f2 => va_runV (b := bb) (As := [.int (xs (i + 1))]) (rest := [.int v]) S (metX6_hours z2) (cwV 1 hts (lw_V q2536 q2537 q2538 q179 q2539) rfl rfl rfl (by decide +kernel) ⟨Nat.le_of_ble_eq_true rfl, Nat.le_of_ble_eq_true rfl⟩) (m_preV hK hM) rfl rfl hl.1 rfl (lv_room (Nat.le_of_ble_eq_true rfl)) dL_law_1004 ⟨f1, f2⟩) (fun H2 locs2 n hn hH hM hz2 hS => ?_)
  refine lv_icmp_eq (tgt := 1167) hx hb dL_law_1007 (by decide) (fun _ => ?_) (fun c => absurd rfl c)
  exact kk _ _ _ hn hH hM (Nat.le_trans hz hz2) hS
set_option maxHeartbeats 4000000 in
theorem law_c27 {p : Program} {l : Launch} {e : Env} {s : State} {m : MethodId} {below : List Frame} {meth : Method} {c : Code} {D : va_G} {ac : Nat → ClassId} {K : KE} {G : mG} {A0 A2 : Nat → Prop} {a b bb L i : Nat} {xs : Nat → Int32} {Q : State → Prop} (C : LX p s m c D ac K G A0 A2 b bb L xs) {h h' : HS} {σ σ' : MS} {v : Int32} (ho : ∃ fs, rd K h a = some (.inr (0, fs))) (hi : i + 6 ≤ L) (z1 : fX0_chance K h a (xs (i + 1)) = some (h', v)) (z2 : fX6_chance σ (xs (i + 1)) = some (σ', v)) {H : Heap} {locs : List Loc} (hH : HR A2 D ac K h H) (hM : MW G bb σ H) (hS : va_S A0 s.heap H locs) (hz : bb + 1 + mNA ≤ H.size) {ls : Array Slot} (hl : lv_has ls 4 [(0, .ref b), (1, .ref a), (2, .ref bb), (3, .int (nI i))])
    (kk : ∀ (H1 : Heap) (locs1 : List Loc) (n : Nat), n ≤ h'.2.2 → HR A2 D ac K (h'.1, h'.2.1, n) H1 → MW G bb σ' H1 → bb + 1 + mNA ≤ H1.size → va_S A0 s.heap H1 locs1 → W p l e room_1 s m #[Value.ref b] below meth c H1 locs1 room_1.cells room_1.slots Q (F0 m 1167 ls [])) : W p l e room_1 s m #[Value.ref b] below meth c H locs room_1.cells room_1.slots Q (F0 m 1012 ls []) := by
  obtain ⟨S, hG, hK, hRM, ⟨hX, hbl, hbA, hL⟩, hA, hB, hKo⟩ := C
  obtain ⟨hx, hb, hml, hown, hts⟩ := id S
  refine lv_aload_n hx hb dL_law_1012 rfl (lv_at hl 1 rfl) ?_
  refine lv_aload_n hx hb dL_law_1013 rfl (lv_at hl 0 rfl) ?_
  refine lv_iload_n hx hb dL_law_1014 rfl (lv_at hl 3 rfl) ?_
  refine lv_iconst (v := (1 : Int32)) hx hb dL_law_1015 (by decide) ?_
  refine lv_iadd hx hb dL_law_1016 ?_
  refine va_sld hx hb hX hbl hbA hS (l_ix (k := 1) (by omega) hL rfl).1 dL_law_1017 ?_
  rw [(l_ix (i := i) (k := 1) (L := L) (v := (1 : Int32)) (by omega) hL rfl).2]
  refine l_ci (x := (h', v)) hH hM hS hRM hA (fun q h => (hB q h).2) hz (fun _ _ f1 f2 => va_runV (b := a) (As := [.int (xs (i + 1))]) (rest := []) S (metX0_chance z1) (cwV 1 hts (lw_V q1625 q1626 q1627 q167 q1628) rfl rfl rfl (by decide +kernel) ⟨Nat.le_of_ble_eq_true rfl, Nat.le_of_ble_eq_true rfl⟩) (l_preV hG hA hH hS ho) rfl rfl hl.1 rfl (lv_room (Nat.le_of_ble_eq_true rfl)) dL_law_1018 ⟨f1, f2⟩) (fun H1 locs1 hH hM hz1 hS => ?_)
  replace hz := Nat.le_trans hz hz1
  refine lv_aload_n hx hb dL_law_1021 rfl (lv_at hl 2 rfl) ?_
  refine lv_aload_n hx hb dL_law_1022 rfl (lv_at hl 0 rfl) ?_
  refine lv_iload_n hx hb dL_law_1023 rfl (lv_at hl 3 rfl) ?_
  refine lv_iconst (v := (1 : Int32)) hx hb dL_law_1024 (by decide) ?_
  refine lv_iadd hx hb dL_law_1025 ?_
  refine va_sld hx hb hX hbl hbA hS (l_ix (k := 1) (by omega) hL rfl).1 dL_law_1026 ?_
  rw [(l_ix (i := i) (k := 1) (L := L) (v := (1 : Int32)) (by omega) hL rfl).2]
  refine l_mi (x := (σ', v)) hH hS hRM hB hKo (fun _ _ f1 f2 => va_runV (b := bb) (As := [.int (xs (i + 1))]) (rest := [.int v]) S (metX6_chance z2) (cwV 1 hts (lw_V q2548 q2549 q2550 q179 q2551) rfl rfl rfl (by decide +kernel) ⟨Nat.le_of_ble_eq_true rfl, Nat.le_of_ble_eq_true rfl⟩) (m_preV hK hM) rfl rfl hl.1 rfl (lv_room (Nat.le_of_ble_eq_true rfl)) dL_law_1027 ⟨f1, f2⟩) (fun H2 locs2 n hn hH hM hz2 hS => ?_)
  refine lv_icmp_eq (tgt := 1167) hx hb dL_law_1030 (by decide) (fun _ => ?_) (fun c => absurd rfl c)
  exact kk _ _ _ hn hH hM (Nat.le_trans hz hz2) hS
set_option maxHeartbeats 4000000 in
theorem law_c28 {p : Program} {l : Launch} {e : Env} {s : State} {m : MethodId} {below : List Frame} {meth : Method} {c : Code} {D : va_G} {ac : Nat → ClassId} {K : KE} {G : mG} {A0 A2 : Nat → Prop} {a b bb L i : Nat} {xs : Nat → Int32} {Q : State → Prop} (C : LX p s m c D ac K G A0 A2 b bb L xs) {h h' : HS} {σ σ' : MS} {v : Int32} (ho : ∃ fs, rd K h a = some (.inr (0, fs))) (hi : i + 6 ≤ L) (z1 : fX0_undo K h a = some (h', v)) (z2 : fX6_undo σ = some (σ', v)) {H : Heap} {locs : List Loc} (hH : HR A2 D ac K h H) (hM : MW G bb σ H) (hS : va_S A0 s.heap H locs) (hz : bb + 1 + mNA ≤ H.size) {ls : Array Slot} (hl : lv_has ls 4 [(0, .ref b), (1, .ref a), (2, .ref bb), (3, .int (nI i))])
    (kk : ∀ (H1 : Heap) (locs1 : List Loc) (n : Nat), n ≤ h'.2.2 → HR A2 D ac K (h'.1, h'.2.1, n) H1 → MW G bb σ' H1 → bb + 1 + mNA ≤ H1.size → va_S A0 s.heap H1 locs1 → W p l e room_1 s m #[Value.ref b] below meth c H1 locs1 room_1.cells room_1.slots Q (F0 m 1167 ls [])) : W p l e room_1 s m #[Value.ref b] below meth c H locs room_1.cells room_1.slots Q (F0 m 1035 ls []) := by
  obtain ⟨S, hG, hK, hRM, ⟨hX, hbl, hbA, hL⟩, hA, hB, hKo⟩ := C
  obtain ⟨hx, hb, hml, hown, hts⟩ := id S
  refine lv_aload_n hx hb dL_law_1035 rfl (lv_at hl 1 rfl) ?_
  refine l_ci (x := (h', v)) hH hM hS hRM hA (fun q h => (hB q h).2) hz (fun _ _ f1 f2 => va_runV (b := a) (As := []) (rest := []) S (metX0_undo z1) (cwV 0 hts (lw_V q1605 q1606 q1607 q167 q1608) rfl rfl rfl (by decide +kernel) ⟨Nat.le_of_ble_eq_true rfl, Nat.le_of_ble_eq_true rfl⟩) (l_preV hG hA hH hS ho) rfl rfl hl.1 rfl (lv_room (Nat.le_of_ble_eq_true rfl)) dL_law_1036 ⟨f1, f2⟩) (fun H1 locs1 hH hM hz1 hS => ?_)
  replace hz := Nat.le_trans hz hz1
  refine lv_aload_n hx hb dL_law_1039 rfl (lv_at hl 2 rfl) ?_
  refine l_mi (x := (σ', v)) hH hS hRM hB hKo (fun _ _ f1 f2 => va_runV (b := bb) (As := []) (rest := [.int v]) S (metX6_undo z2) (cwV 0 hts (lw_V q2520 q2521 q2522 q179 q2523) rfl rfl rfl (by decide +kernel) ⟨Nat.le_of_ble_eq_true rfl, Nat.le_of_ble_eq_true rfl⟩) (m_preV hK hM) rfl rfl hl.1 rfl (lv_room (Nat.le_of_ble_eq_true rfl)) dL_law_1040 ⟨f1, f2⟩) (fun H2 locs2 n hn hH hM hz2 hS => ?_)
  refine lv_icmp_eq (tgt := 1167) hx hb dL_law_1043 (by decide) (fun _ => ?_) (fun c => absurd rfl c)
  exact kk _ _ _ hn hH hM (Nat.le_trans hz hz2) hS
set_option maxHeartbeats 4000000 in
theorem law_c29 {p : Program} {l : Launch} {e : Env} {s : State} {m : MethodId} {below : List Frame} {meth : Method} {c : Code} {D : va_G} {ac : Nat → ClassId} {K : KE} {G : mG} {A0 A2 : Nat → Prop} {a b bb L i : Nat} {xs : Nat → Int32} {Q : State → Prop} (C : LX p s m c D ac K G A0 A2 b bb L xs) {h h' : HS} {σ σ' : MS} {v : Int32} (ho : ∃ fs, rd K h a = some (.inr (0, fs))) (hi : i + 6 ≤ L) (z1 : fX0_seed K h a (xs (i + 1)) = some (h', v)) (z2 : fX6_seed σ (xs (i + 1)) = some (σ', v)) {H : Heap} {locs : List Loc} (hH : HR A2 D ac K h H) (hM : MW G bb σ H) (hS : va_S A0 s.heap H locs) (hz : bb + 1 + mNA ≤ H.size) {ls : Array Slot} (hl : lv_has ls 4 [(0, .ref b), (1, .ref a), (2, .ref bb), (3, .int (nI i))])
    (kk : ∀ (H1 : Heap) (locs1 : List Loc) (n : Nat), n ≤ h'.2.2 → HR A2 D ac K (h'.1, h'.2.1, n) H1 → MW G bb σ' H1 → bb + 1 + mNA ≤ H1.size → va_S A0 s.heap H1 locs1 → W p l e room_1 s m #[Value.ref b] below meth c H1 locs1 room_1.cells room_1.slots Q (F0 m 1167 ls [])) : W p l e room_1 s m #[Value.ref b] below meth c H locs room_1.cells room_1.slots Q (F0 m 1048 ls []) := by
  obtain ⟨S, hG, hK, hRM, ⟨hX, hbl, hbA, hL⟩, hA, hB, hKo⟩ := C
  obtain ⟨hx, hb, hml, hown, hts⟩ := id S
  refine lv_aload_n hx hb dL_law_1048 rfl (lv_at hl 1 rfl) ?_
  refine lv_aload_n hx hb dL_law_1049 rfl (lv_at hl 0 rfl) ?_
  refine lv_iload_n hx hb dL_law_1050 rfl (lv_at hl 3 rfl) ?_
  refine lv_iconst (v := (1 : Int32)) hx hb dL_law_1051 (by decide) ?_
  refine lv_iadd hx hb dL_law_1052 ?_
  refine va_sld hx hb hX hbl hbA hS (l_ix (k := 1) (by omega) hL rfl).1 dL_law_1053 ?_
  rw [(l_ix (i := i) (k := 1) (L := L) (v := (1 : Int32)) (by omega) hL rfl).2]
  refine l_ci (x := (h', v)) hH hM hS hRM hA (fun q h => (hB q h).2) hz (fun _ _ f1 f2 => va_runV (b := a) (As := [.int (xs (i + 1))]) (rest := []) S (metX0_seed z1) (cwV 1 hts (lw_V q1641 q1642 q1643 q167 q1644) rfl rfl rfl (by decide +kernel) ⟨Nat.le_of_ble_eq_true rfl, Nat.le_of_ble_eq_true rfl⟩) (l_preV hG hA hH hS ho) rfl rfl hl.1 rfl (lv_room (Nat.le_of_ble_eq_true rfl)) dL_law_1054 ⟨f1, f2⟩) (fun H1 locs1 hH hM hz1 hS => ?_)
  replace hz := Nat.le_trans hz hz1
  refine lv_aload_n hx hb dL_law_1057 rfl (lv_at hl 2 rfl) ?_
  refine lv_aload_n hx hb dL_law_1058 rfl (lv_at hl 0 rfl) ?_
  refine lv_iload_n hx hb dL_law_1059 rfl (lv_at hl 3 rfl) ?_
  refine lv_iconst (v := (1 : Int32)) hx hb dL_law_1060 (by decide) ?_
  refine lv_iadd hx hb dL_law_1061 ?_
  refine va_sld hx hb hX hbl hbA hS (l_ix (k := 1) (by omega) hL rfl).1 dL_law_1062 ?_
  rw [(l_ix (i := i) (k := 1) (L := L) (v := (1 : Int32)) (by omega) hL rfl).2]
  refine l_mi (x := (σ', v)) hH hS hRM hB hKo (fun _ _ f1 f2 => va_runV (b := bb) (As := [.int (xs (i + 1))]) (rest := [.int v]) S (metX6_seed z2) (cwV 1 hts (lw_V q2544 q2545 q2546 q179 q2547) rfl rfl rfl (by decide +kernel) ⟨Nat.le_of_ble_eq_true rfl, Nat.le_of_ble_eq_true rfl⟩) (m_preV hK hM) rfl rfl hl.1 rfl (lv_room (Nat.le_of_ble_eq_true rfl)) dL_law_1063 ⟨f1, f2⟩) (fun H2 locs2 n hn hH hM hz2 hS => ?_)
  refine lv_icmp_eq (tgt := 1167) hx hb dL_law_1066 (by decide) (fun _ => ?_) (fun c => absurd rfl c)
  exact kk _ _ _ hn hH hM (Nat.le_trans hz hz2) hS
set_option maxHeartbeats 4000000 in
theorem law_c30 {p : Program} {l : Launch} {e : Env} {s : State} {m : MethodId} {below : List Frame} {meth : Method} {c : Code} {D : va_G} {ac : Nat → ClassId} {K : KE} {G : mG} {A0 A2 : Nat → Prop} {a b bb L i : Nat} {xs : Nat → Int32} {Q : State → Prop} (C : LX p s m c D ac K G A0 A2 b bb L xs) {h h' : HS} {σ σ' : MS} {v : Int64} (ho : ∃ fs, rd K h a = some (.inr (0, fs))) (hi : i + 6 ≤ L) (z1 : fX0_ask K h a (xs (i + 1)) = some (h', v)) (z2 : fX6_ask σ (xs (i + 1)) = some (σ', v)) {H : Heap} {locs : List Loc} (hH : HR A2 D ac K h H) (hM : MW G bb σ H) (hS : va_S A0 s.heap H locs) (hz : bb + 1 + mNA ≤ H.size) {ls : Array Slot} (hl : lv_has ls 4 [(0, .ref b), (1, .ref a), (2, .ref bb), (3, .int (nI i))])
    (kk : ∀ (H1 : Heap) (locs1 : List Loc) (n : Nat), n ≤ h'.2.2 → HR A2 D ac K (h'.1, h'.2.1, n) H1 → MW G bb σ' H1 → bb + 1 + mNA ≤ H1.size → va_S A0 s.heap H1 locs1 → W p l e room_1 s m #[Value.ref b] below meth c H1 locs1 room_1.cells room_1.slots Q (F0 m 1167 ls [])) : W p l e room_1 s m #[Value.ref b] below meth c H locs room_1.cells room_1.slots Q (F0 m 1071 ls []) := by
  obtain ⟨S, hG, hK, hRM, ⟨hX, hbl, hbA, hL⟩, hA, hB, hKo⟩ := C
  obtain ⟨hx, hb, hml, hown, hts⟩ := id S
  refine lv_aload_n hx hb dL_law_1071 rfl (lv_at hl 1 rfl) ?_
  refine lv_aload_n hx hb dL_law_1072 rfl (lv_at hl 0 rfl) ?_
  refine lv_iload_n hx hb dL_law_1073 rfl (lv_at hl 3 rfl) ?_
  refine lv_iconst (v := (1 : Int32)) hx hb dL_law_1074 (by decide) ?_
  refine lv_iadd hx hb dL_law_1075 ?_
  refine va_sld hx hb hX hbl hbA hS (l_ix (k := 1) (by omega) hL rfl).1 dL_law_1076 ?_
  rw [(l_ix (i := i) (k := 1) (L := L) (v := (1 : Int32)) (by omega) hL rfl).2]
  refine l_cl (x := (h', v)) hH hM hS hRM hA (fun q h => (hB q h).2) hz (fun _ _ f1 f2 => vx_runVW (b := a) (As := [.int (xs (i + 1))]) (rest := []) S (metX0_ask z1) (vx_cwVW 1 hts (lw_VW q1645 q1646 q1647 q167 q1648) rfl rfl rfl (by decide +kernel) ⟨Nat.le_of_ble_eq_true rfl, Nat.le_of_ble_eq_true rfl⟩) (l_preV hG hA hH hS ho) rfl rfl hl.1 rfl (lv_room (Nat.le_of_ble_eq_true rfl)) dL_law_1077 ⟨f1, f2⟩) (fun H1 locs1 hH hM hz1 hS => ?_)
  replace hz := Nat.le_trans hz hz1
  refine lv_aload_n hx hb dL_law_1080 rfl (lv_at hl 2 rfl) ?_
  refine lv_aload_n hx hb dL_law_1081 rfl (lv_at hl 0 rfl) ?_
  refine lv_iload_n hx hb dL_law_1082 rfl (lv_at hl 3 rfl) ?_
  refine lv_iconst (v := (1 : Int32)) hx hb dL_law_1083 (by decide) ?_
  refine lv_iadd hx hb dL_law_1084 ?_
  refine va_sld hx hb hX hbl hbA hS (l_ix (k := 1) (by omega) hL rfl).1 dL_law_1085 ?_
  rw [(l_ix (i := i) (k := 1) (L := L) (v := (1 : Int32)) (by omega) hL rfl).2]
  refine l_ml (x := (σ', v)) hH hS hRM hB hKo (fun _ _ f1 f2 => va_runV (b := bb) (As := [.int (xs (i + 1))]) (rest := [.long v]) S (metX6_ask z2) (cwV 1 hts (lw_V q2564 q2565 q2566 q179 q2567) rfl rfl rfl (by decide +kernel) ⟨Nat.le_of_ble_eq_true rfl, Nat.le_of_ble_eq_true rfl⟩) (m_preV hK hM) rfl rfl hl.1 rfl (lv_room (Nat.le_of_ble_eq_true rfl)) dL_law_1086 ⟨f1, f2⟩) (fun H2 locs2 n hn hH hM hz2 hS => ?_)
  refine W.lcmp hx hb dL_law_1089 ?_
  refine lv_if_eq (tgt := 1167) hx hb dL_law_1090 (by decide) (fun _ => ?_) (fun c => absurd (lg_cmp_self v) c)
  exact kk _ _ _ hn hH hM (Nat.le_trans hz hz2) hS
set_option maxHeartbeats 4000000 in
theorem law_c31 {p : Program} {l : Launch} {e : Env} {s : State} {m : MethodId} {below : List Frame} {meth : Method} {c : Code} {D : va_G} {ac : Nat → ClassId} {K : KE} {G : mG} {A0 A2 : Nat → Prop} {a b bb L i : Nat} {xs : Nat → Int32} {Q : State → Prop} (C : LX p s m c D ac K G A0 A2 b bb L xs) {h h' : HS} {σ σ' : MS} {v : Int32} (ho : ∃ fs, rd K h a = some (.inr (0, fs))) (hi : i + 6 ≤ L) (z1 : fX0_image K h a = some (h', v)) (z2 : fX6_image σ = some (σ', v)) {H : Heap} {locs : List Loc} (hH : HR A2 D ac K h H) (hM : MW G bb σ H) (hS : va_S A0 s.heap H locs) (hz : bb + 1 + mNA ≤ H.size) {ls : Array Slot} (hl : lv_has ls 4 [(0, .ref b), (1, .ref a), (2, .ref bb), (3, .int (nI i))])
    (kk : ∀ (H1 : Heap) (locs1 : List Loc) (n : Nat), n ≤ h'.2.2 → HR A2 D ac K (h'.1, h'.2.1, n) H1 → MW G bb σ' H1 → bb + 1 + mNA ≤ H1.size → va_S A0 s.heap H1 locs1 → W p l e room_1 s m #[Value.ref b] below meth c H1 locs1 room_1.cells room_1.slots Q (F0 m 1167 ls [])) : W p l e room_1 s m #[Value.ref b] below meth c H locs room_1.cells room_1.slots Q (F0 m 1095 ls []) := by
  obtain ⟨S, hG, hK, hRM, ⟨hX, hbl, hbA, hL⟩, hA, hB, hKo⟩ := C
  obtain ⟨hx, hb, hml, hown, hts⟩ := id S
  refine lv_aload_n hx hb dL_law_1095 rfl (lv_at hl 1 rfl) ?_
  refine l_ci (x := (h', v)) hH hM hS hRM hA (fun q h => (hB q h).2) hz (fun _ _ f1 f2 => va_runV (b := a) (As := []) (rest := []) S (metX0_image z1) (cwV 0 hts (lw_V q1691 q1692 q1693 q167 q1694) rfl rfl rfl (by decide +kernel) ⟨Nat.le_of_ble_eq_true rfl, Nat.le_of_ble_eq_true rfl⟩) (l_preV hG hA hH hS ho) rfl rfl hl.1 rfl (lv_room (Nat.le_of_ble_eq_true rfl)) dL_law_1096 ⟨f1, f2⟩) (fun H1 locs1 hH hM hz1 hS => ?_)
  replace hz := Nat.le_trans hz hz1
  refine lv_aload_n hx hb dL_law_1099 rfl (lv_at hl 2 rfl) ?_
  refine l_mi (x := (σ', v)) hH hS hRM hB hKo (fun _ _ f1 f2 => va_runV (b := bb) (As := []) (rest := [.int v]) S (metX6_image z2) (cwV 0 hts (lw_V q2585 q2586 q2587 q179 q2588) rfl rfl rfl (by decide +kernel) ⟨Nat.le_of_ble_eq_true rfl, Nat.le_of_ble_eq_true rfl⟩) (m_preV hK hM) rfl rfl hl.1 rfl (lv_room (Nat.le_of_ble_eq_true rfl)) dL_law_1100 ⟨f1, f2⟩) (fun H2 locs2 n hn hH hM hz2 hS => ?_)
  refine lv_icmp_eq (tgt := 1167) hx hb dL_law_1103 (by decide) (fun _ => ?_) (fun c => absurd rfl c)
  exact kk _ _ _ hn hH hM (Nat.le_trans hz hz2) hS
set_option maxHeartbeats 4000000 in
theorem law_c32 {p : Program} {l : Launch} {e : Env} {s : State} {m : MethodId} {below : List Frame} {meth : Method} {c : Code} {D : va_G} {ac : Nat → ClassId} {K : KE} {G : mG} {A0 A2 : Nat → Prop} {a b bb L i : Nat} {xs : Nat → Int32} {Q : State → Prop} (C : LX p s m c D ac K G A0 A2 b bb L xs) {h : HS} {σ : MS} {v : Int32} (ho : ∃ fs, rd K h a = some (.inr (0, fs))) (hi : i + 6 ≤ L) (z1 : fX0_octet K h a (xs (i + 1)) = some v) (z2 : fX6_octet σ (xs (i + 1)) = some v) {H : Heap} {locs : List Loc} (hH : HR A2 D ac K h H) (hM : MW G bb σ H) (hS : va_S A0 s.heap H locs) (hz : bb + 1 + mNA ≤ H.size) {ls : Array Slot} (hl : lv_has ls 4 [(0, .ref b), (1, .ref a), (2, .ref bb), (3, .int (nI i))])
    (kk : ∀ (H1 : Heap) (locs1 : List Loc) (n : Nat), n ≤ h.2.2 → HR A2 D ac K (h.1, h.2.1, n) H1 → MW G bb σ H1 → bb + 1 + mNA ≤ H1.size → va_S A0 s.heap H1 locs1 → W p l e room_1 s m #[Value.ref b] below meth c H1 locs1 room_1.cells room_1.slots Q (F0 m 1167 ls [])) : W p l e room_1 s m #[Value.ref b] below meth c H locs room_1.cells room_1.slots Q (F0 m 1108 ls []) := by
  obtain ⟨S, hG, hK, hRM, ⟨hX, hbl, hbA, hL⟩, hA, hB, hKo⟩ := C
  obtain ⟨hx, hb, hml, hown, hts⟩ := id S
  refine lv_aload_n hx hb dL_law_1108 rfl (lv_at hl 1 rfl) ?_
  refine lv_aload_n hx hb dL_law_1109 rfl (lv_at hl 0 rfl) ?_
  refine lv_iload_n hx hb dL_law_1110 rfl (lv_at hl 3 rfl) ?_
  refine lv_iconst (v := (1 : Int32)) hx hb dL_law_1111 (by decide) ?_
  refine lv_iadd hx hb dL_law_1112 ?_
  refine va_sld hx hb hX hbl hbA hS (l_ix (k := 1) (by omega) hL rfl).1 dL_law_1113 ?_
  rw [(l_ix (i := i) (k := 1) (L := L) (v := (1 : Int32)) (by omega) hL rfl).2]
  refine l_ci (x := (h, v)) hH hM hS hRM hA (fun q h => (hB q h).2) hz (fun _ _ f1 f2 => va_runV (b := a) (As := [.int (xs (i + 1))]) (rest := []) S (metX0_octet z1) (cwV 1 hts (lw_V q1702 q1703 q1704 q167 q1705) rfl rfl rfl (by decide +kernel) ⟨Nat.le_of_ble_eq_true rfl, Nat.le_of_ble_eq_true rfl⟩) (l_preV hG hA hH hS ho) rfl rfl hl.1 rfl (lv_room (Nat.le_of_ble_eq_true rfl)) dL_law_1114 ⟨f1, f2⟩) (fun H1 locs1 hH hM hz1 hS => ?_)
  replace hz := Nat.le_trans hz hz1
  refine lv_aload_n hx hb dL_law_1117 rfl (lv_at hl 2 rfl) ?_
  refine lv_aload_n hx hb dL_law_1118 rfl (lv_at hl 0 rfl) ?_
  refine lv_iload_n hx hb dL_law_1119 rfl (lv_at hl 3 rfl) ?_
  refine lv_iconst (v := (1 : Int32)) hx hb dL_law_1120 (by decide) ?_
  refine lv_iadd hx hb dL_law_1121 ?_
  refine va_sld hx hb hX hbl hbA hS (l_ix (k := 1) (by omega) hL rfl).1 dL_law_1122 ?_
  rw [(l_ix (i := i) (k := 1) (L := L) (v := (1 : Int32)) (by omega) hL rfl).2]
  refine l_mi (x := (σ, v)) hH hS hRM hB hKo (fun _ _ f1 f2 => va_runV (b := bb) (As := [.int (xs (i + 1))]) (rest := [.int v]) S (metX6_octet z2) (cwV 1 hts (lw_V q2600 q2601 q2602 q179 q2603) rfl rfl rfl (by decide +kernel) ⟨Nat.le_of_ble_eq_true rfl, Nat.le_of_ble_eq_true rfl⟩) (m_preV hK hM) rfl rfl hl.1 rfl (lv_room (Nat.le_of_ble_eq_true rfl)) dL_law_1123 ⟨f1, f2⟩) (fun H2 locs2 n hn hH hM hz2 hS => ?_)
  refine lv_icmp_eq (tgt := 1167) hx hb dL_law_1126 (by decide) (fun _ => ?_) (fun c => absurd rfl c)
  exact kk _ _ _ hn hH hM (Nat.le_trans hz hz2) hS
set_option maxHeartbeats 4000000 in
theorem law_c33 {p : Program} {l : Launch} {e : Env} {s : State} {m : MethodId} {below : List Frame} {meth : Method} {c : Code} {D : va_G} {ac : Nat → ClassId} {K : KE} {G : mG} {A0 A2 : Nat → Prop} {a b bb L i : Nat} {xs : Nat → Int32} {Q : State → Prop} (C : LX p s m c D ac K G A0 A2 b bb L xs) {h h' : HS} {σ σ' : MS} {v : Int32} (ho : ∃ fs, rd K h a = some (.inr (0, fs))) (hi : i + 6 ≤ L) (z1 : fX0_on K h a = some (h', v)) (z2 : fX6_on σ = some (σ', v)) {H : Heap} {locs : List Loc} (hH : HR A2 D ac K h H) (hM : MW G bb σ H) (hS : va_S A0 s.heap H locs) (hz : bb + 1 + mNA ≤ H.size) {ls : Array Slot} (hl : lv_has ls 4 [(0, .ref b), (1, .ref a), (2, .ref bb), (3, .int (nI i))])
    (kk : ∀ (H1 : Heap) (locs1 : List Loc) (n : Nat), n ≤ h'.2.2 → HR A2 D ac K (h'.1, h'.2.1, n) H1 → MW G bb σ' H1 → bb + 1 + mNA ≤ H1.size → va_S A0 s.heap H1 locs1 → W p l e room_1 s m #[Value.ref b] below meth c H1 locs1 room_1.cells room_1.slots Q (F0 m 1167 ls [])) : W p l e room_1 s m #[Value.ref b] below meth c H locs room_1.cells room_1.slots Q (F0 m 1131 ls []) := by
  obtain ⟨S, hG, hK, hRM, ⟨hX, hbl, hbA, hL⟩, hA, hB, hKo⟩ := C
  obtain ⟨hx, hb, hml, hown, hts⟩ := id S
  refine lv_aload_n hx hb dL_law_1131 rfl (lv_at hl 1 rfl) ?_
  refine l_ci (x := (h', v)) hH hM hS hRM hA (fun q h => (hB q h).2) hz (fun _ _ f1 f2 => va_runV (b := a) (As := []) (rest := []) S (metX0_on z1) (cwV 0 hts (lw_V q1706 q1707 q1708 q167 q1709) rfl rfl rfl (by decide +kernel) ⟨Nat.le_of_ble_eq_true rfl, Nat.le_of_ble_eq_true rfl⟩) (l_preV hG hA hH hS ho) rfl rfl hl.1 rfl (lv_room (Nat.le_of_ble_eq_true rfl)) dL_law_1132 ⟨f1, f2⟩) (fun H1 locs1 hH hM hz1 hS => ?_)
  replace hz := Nat.le_trans hz hz1
  refine lv_aload_n hx hb dL_law_1135 rfl (lv_at hl 2 rfl) ?_
  refine l_mi (x := (σ', v)) hH hS hRM hB hKo (fun _ _ f1 f2 => va_runV (b := bb) (As := []) (rest := [.int v]) S (metX6_on z2) (cwV 0 hts (lw_V q2604 q2605 q2606 q179 q2607) rfl rfl rfl (by decide +kernel) ⟨Nat.le_of_ble_eq_true rfl, Nat.le_of_ble_eq_true rfl⟩) (m_preV hK hM) rfl rfl hl.1 rfl (lv_room (Nat.le_of_ble_eq_true rfl)) dL_law_1136 ⟨f1, f2⟩) (fun H2 locs2 n hn hH hM hz2 hS => ?_)
  refine lv_icmp_eq (tgt := 1167) hx hb dL_law_1139 (by decide) (fun _ => ?_) (fun c => absurd rfl c)
  exact kk _ _ _ hn hH hM (Nat.le_trans hz hz2) hS
set_option maxHeartbeats 4000000 in
theorem law_c34 {p : Program} {l : Launch} {e : Env} {s : State} {m : MethodId} {below : List Frame} {meth : Method} {c : Code} {D : va_G} {ac : Nat → ClassId} {K : KE} {G : mG} {A0 A2 : Nat → Prop} {a b bb L i : Nat} {xs : Nat → Int32} {Q : State → Prop} (C : LX p s m c D ac K G A0 A2 b bb L xs) {h : HS} {σ : MS} {v : Int32} (ho : ∃ fs, rd K h a = some (.inr (0, fs))) (hi : i + 6 ≤ L) (z1 : fX0_status K h a (xs (i + 1)) = some v) (z2 : fX6_status σ (xs (i + 1)) = some v) {H : Heap} {locs : List Loc} (hH : HR A2 D ac K h H) (hM : MW G bb σ H) (hS : va_S A0 s.heap H locs) (hz : bb + 1 + mNA ≤ H.size) {ls : Array Slot} (hl : lv_has ls 4 [(0, .ref b), (1, .ref a), (2, .ref bb), (3, .int (nI i))])
    (kk : ∀ (H1 : Heap) (locs1 : List Loc) (n : Nat), n ≤ h.2.2 → HR A2 D ac K (h.1, h.2.1, n) H1 → MW G bb σ H1 → bb + 1 + mNA ≤ H1.size → va_S A0 s.heap H1 locs1 → W p l e room_1 s m #[Value.ref b] below meth c H1 locs1 room_1.cells room_1.slots Q (F0 m 1167 ls [])) : W p l e room_1 s m #[Value.ref b] below meth c H locs room_1.cells room_1.slots Q (F0 m 1144 ls []) := by
  obtain ⟨S, hG, hK, hRM, ⟨hX, hbl, hbA, hL⟩, hA, hB, hKo⟩ := C
  obtain ⟨hx, hb, hml, hown, hts⟩ := id S
  refine lv_aload_n hx hb dL_law_1144 rfl (lv_at hl 1 rfl) ?_
  refine lv_aload_n hx hb dL_law_1145 rfl (lv_at hl 0 rfl) ?_
  refine lv_iload_n hx hb dL_law_1146 rfl (lv_at hl 3 rfl) ?_
  refine lv_iconst (v := (1 : Int32)) hx hb dL_law_1147 (by decide) ?_
  refine lv_iadd hx hb dL_law_1148 ?_
  refine va_sld hx hb hX hbl hbA hS (l_ix (k := 1) (by omega) hL rfl).1 dL_law_1149 ?_
  rw [(l_ix (i := i) (k := 1) (L := L) (v := (1 : Int32)) (by omega) hL rfl).2]
  refine l_ci (x := (h, v)) hH hM hS hRM hA (fun q h => (hB q h).2) hz (fun _ _ f1 f2 => va_runV (b := a) (As := [.int (xs (i + 1))]) (rest := []) S (metX0_status z1) (cwV 1 hts (lw_V q1722 q1723 q1724 q167 q1725) rfl rfl rfl (by decide +kernel) ⟨Nat.le_of_ble_eq_true rfl, Nat.le_of_ble_eq_true rfl⟩) (l_preV hG hA hH hS ho) rfl rfl hl.1 rfl (lv_room (Nat.le_of_ble_eq_true rfl)) dL_law_1150 ⟨f1, f2⟩) (fun H1 locs1 hH hM hz1 hS => ?_)
  replace hz := Nat.le_trans hz hz1
  refine lv_aload_n hx hb dL_law_1153 rfl (lv_at hl 2 rfl) ?_
  refine lv_aload_n hx hb dL_law_1154 rfl (lv_at hl 0 rfl) ?_
  refine lv_iload_n hx hb dL_law_1155 rfl (lv_at hl 3 rfl) ?_
  refine lv_iconst (v := (1 : Int32)) hx hb dL_law_1156 (by decide) ?_
  refine lv_iadd hx hb dL_law_1157 ?_
  refine va_sld hx hb hX hbl hbA hS (l_ix (k := 1) (by omega) hL rfl).1 dL_law_1158 ?_
  rw [(l_ix (i := i) (k := 1) (L := L) (v := (1 : Int32)) (by omega) hL rfl).2]
  refine l_mi (x := (σ, v)) hH hS hRM hB hKo (fun _ _ f1 f2 => va_runV (b := bb) (As := [.int (xs (i + 1))]) (rest := [.int v]) S (metX6_status z2) (cwV 1 hts (lw_V q2624 q2625 q2626 q179 q2627) rfl rfl rfl (by decide +kernel) ⟨Nat.le_of_ble_eq_true rfl, Nat.le_of_ble_eq_true rfl⟩) (m_preV hK hM) rfl rfl hl.1 rfl (lv_room (Nat.le_of_ble_eq_true rfl)) dL_law_1159 ⟨f1, f2⟩) (fun H2 locs2 n hn hH hM hz2 hS => ?_)
  refine lv_icmp_eq (tgt := 1167) hx hb dL_law_1162 (by decide) (fun _ => ?_) (fun c => absurd rfl c)
  exact kk _ _ _ hn hH hM (Nat.le_trans hz hz2) hS

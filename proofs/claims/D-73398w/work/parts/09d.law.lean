def f_L_law_L23 (i0 : Nat)  : Nat → Int32 → Nat → Nat → j_St → Option (Int32 × j_St)
  | 0, _, _, _, _ => none
  | n23 + 1, v29, c33, c34, w30 => if (Int32.ofNat (jgn w30 39 i0)) - 6 < v29 then if c33 ≤ 1200048 ∧ c34 ≤ 5501818 then some (1, w30) else none else jbd v29 (jgn w30 39 i0) fun a36 => jlt (jgi w30 39 i0 a36) fun v37 => jlt (v37 &&& 63) fun v38 => jlt (fun (c700 : Nat) (c701 : Nat) (w697 : j_St) => jlt (v29 + 6) fun v702 => f_L_law_L23 i0 n23 v702 c700 c701 w697) fun K1445 => if v38 = 0 then jbd (v29 + 1) (jgn w30 39 i0) fun a39 => jlt (jgi w30 39 i0 a39) fun v40 => jbd (v29 + 2) (jgn w30 39 i0) fun a41 => jlt (jgi w30 39 i0 a41) fun v42 => jbd (v29 + 3) (jgn w30 39 i0) fun a43 => jlt (jgi w30 39 i0 a43) fun v44 => jbd (v29 + 4) (jgn w30 39 i0) fun a45 => jlt (jgi w30 39 i0 a45) fun v46 => jbd (v29 + 5) (jgn w30 39 i0) fun a47 => jlt (jgi w30 39 i0 a47) fun v48 => if c33 ≤ 1200048 ∧ c34 ≤ 5501818 then jcb (f_X1_feed v40 v42 v44 v46 v48 w30) fun v49 w50 => jbd (v29 + 1) (jgn w50 39 i0) fun a53 => jlt (jgi w50 39 i0 a53) fun v54 => jbd (v29 + 2) (jgn w50 39 i0) fun a55 => jlt (jgi w50 39 i0 a55) fun v56 => jbd (v29 + 3) (jgn w50 39 i0) fun a57 => jlt (jgi w50 39 i0 a57) fun v58 => jbd (v29 + 4) (jgn w50 39 i0) fun a59 => jlt (jgi w50 39 i0 a59) fun v60 => jbd (v29 + 5) (jgn w50 39 i0) fun a61 => jlt (jgi w50 39 i0 a61) fun v62 => if c33 ≤ 1200048 ∧ c34 ≤ 5501818 then jcb (f_X9_feed v54 v56 v58 v60 v62 w50) fun v63 w64 => if v49 = v63 then K1445 c33 c34 w64 else if c33 ≤ 1200048 ∧ c34 ≤ 5501818 then some (0, w64) else none else none else none else if v38 = 1 then jbd (v29 + 1) (jgn w30 39 i0) fun a68 => jlt (jgi w30 39 i0 a68) fun v69 => if c33 ≤ 1200048 ∧ c34 ≤ 5501818 then jcb (f_X1_end v69 w30) fun v70 w71 => jbd (v29 + 1) (jgn w71 39 i0) fun a74 => jlt (jgi w71 39 i0 a74) fun v75 => if c33 ≤ 1200048 ∧ c34 ≤ 5501818 then jcb (f_X9_end v75 w71) fun v76 w77 => if v70 = v76 then K1445 c33 c34 w77 else if c33 ≤ 1200048 ∧ c34 ≤ 5501818 then some (0, w77) else none else none else none else if v38 = 2 then jbd (v29 + 1) (jgn w30 39 i0) fun a81 => jlt (jgi w30 39 i0 a81) fun v82 => if c33 + 810 ≤ 1200048 ∧ c34 + 192400 ≤ 5501818 then jcb (f_X1_fault v82 w30) fun v83 w84 => jbd (v29 + 1) (jgn w84 39 i0) fun a90 => jlt (jgi w84 39 i0 a90) fun v91 => if c33 + 810 ≤ 1200048 ∧ c34 + 192400 ≤ 5501818 then jcb (f_X9_fault v91 w84) fun v92 w93 => if v83 = v92 then K1445 (c33 + 810) (c34 + 192400) w93 else if c33 + 810 ≤ 1200048 ∧ c34 + 192400 ≤ 5501818 then some (0, w93) else none else none else none else if v38 = 3 then jbd (v29 + 1) (jgn w30 39 i0) fun a97 => jlt (jgi w30 39 i0 a97) fun v98 => if c33 + 810 ≤ 1200048 ∧ c34 + 192400 ≤ 5501818 then jcb (f_X1_text v98 w30) fun v99 w100 => jbd (v29 + 1) (jgn w100 39 i0) fun a106 => jlt (jgi w100 39 i0 a106) fun v107 => if c33 + 810 ≤ 1200048 ∧ c34 + 192400 ≤ 5501818 then jcb (f_X9_text v107 w100) fun v108 w109 => if v99 = v108 then K1445 (c33 + 810) (c34 + 192400) w109 else if c33 + 810 ≤ 1200048 ∧ c34 + 192400 ≤ 5501818 then some (0, w109) else none else none else none else if v38 = 4 then jbd (v29 + 1) (jgn w30 39 i0) fun a113 => jlt (jgi w30 39 i0 a113) fun v114 => if c33 ≤ 1200048 ∧ c34 ≤ 5501818 then jcb (f_X1_rule v114 w30) fun v115 w116 => jbd (v29 + 1) (jgn w116 39 i0) fun a119 => jlt (jgi w116 39 i0 a119) fun v120 => if c33 ≤ 1200048 ∧ c34 ≤ 5501818 then jcb (f_X9_rule v120 w116) fun v121 w122 => if v115 = v121 then K1445 c33 c34 w122 else if c33 ≤ 1200048 ∧ c34 ≤ 5501818 then some (0, w122) else none else none else none else if v38 = 5 then jbd (v29 + 1) (jgn w30 39 i0) fun a126 => jlt (jgi w30 39 i0 a126) fun v127 => if c33 ≤ 1200048 ∧ c34 ≤ 5501818 then jcb (f_X1_sample v127 w30) fun v128 w129 => jbd (v29 + 1) (jgn w129 39 i0) fun a132 => jlt (jgi w129 39 i0 a132) fun v133 => if c33 ≤ 1200048 ∧ c34 ≤ 5501818 then jcb (f_X9_sample v133 w129) fun v134 w135 => if v128 = v134 then K1445 c33 c34 w135 else if c33 ≤ 1200048 ∧ c34 ≤ 5501818 then some (0, w135) else none else none else none else if v38 = 6 then jbd (v29 + 1) (jgn w30 39 i0) fun a139 => jlt (jgi w30 39 i0 a139) fun v140 => jbd (v29 + 2) (jgn w30 39 i0) fun a141 => jlt (jgi w30 39 i0 a141) fun v142 => if c33 + 1 ≤ 1200048 ∧ c34 + 6 ≤ 5501818 then jcb (f_X0_peak v140 v142 0 w30) fun v143 w144 => jbd (v29 + 1) (jgn w144 39 i0) fun a150 => jlt (jgi w144 39 i0 a150) fun v151 => jbd (v29 + 2) (jgn w144 39 i0) fun a152 => jlt (jgi w144 39 i0 a152) fun v153 => if c33 + 1 ≤ 1200048 ∧ c34 + 6 ≤ 5501818 then jcb (f_X9_peak v151 v153 w144) fun v154 w155 => if c33 + 1 ≤ 1200048 ∧ c34 + 6 ≤ 5501818 then jcb (f_X9_thrown w155) fun v158 w159 => if v158 = v143 then jlt (fun (c168 : Nat) (c169 : Nat) (w165 : j_St) => K1445 c168 c169 w165) fun K487 => if v143 = 0 then jbd 0 1 fun a162 => jlt (jgl w159 38 0 a162) fun v163 => if lg_cmp v163 v154.toInt64 = 0 then K487 (c33 + 1) (c34 + 6) w159 else if c33 + 1 ≤ 1200048 ∧ c34 + 6 ≤ 5501818 then some (0, w159) else none else K487 (c33 + 1) (c34 + 6) w159 else if c33 + 1 ≤ 1200048 ∧ c34 + 6 ≤ 5501818 then some (0, w159) else none else none else none else none else if v38 = 7 then jbd (v29 + 1) (jgn w30 39 i0) fun a171 => jlt (jgi w30 39 i0 a171) fun v172 => jbd (v29 + 2) (jgn w30 39 i0) fun a173 => jlt (jgi w30 39 i0 a173) fun v174 => if c33 ≤ 1200048 ∧ c34 ≤ 5501818 then jcb (f_X1_basin v172 v174 w30) fun v175 w176 => jbd (v29 + 1) (jgn w176 39 i0) fun a179 => jlt (jgi w176 39 i0 a179) fun v180 => jbd (v29 + 2) (jgn w176 39 i0) fun a181 => jlt (jgi w176 39 i0 a181) fun v182 => if c33 ≤ 1200048 ∧ c34 ≤ 5501818 then jcb (f_X9_basin v180 v182 w176) fun v183 w184 => if v175 = v183 then K1445 c33 c34 w184 else if c33 ≤ 1200048 ∧ c34 ≤ 5501818 then some (0, w184) else none else none else none else if v38 = 8 then jbd (v29 + 1) (jgn w30 39 i0) fun a188 => jlt (jgi w30 39 i0 a188) fun v189 => jbd (v29 + 2) (jgn w30 39 i0) fun a190 => jlt (jgi w30 39 i0 a190) fun v191 => if c33 ≤ 1200048 ∧ c34 ≤ 5501818 then jcb (f_X1_at v189 v191 w30) fun v192 w193 => jbd (v29 + 1) (jgn w193 39 i0) fun a196 => jlt (jgi w193 39 i0 a196) fun v197 => jbd (v29 + 2) (jgn w193 39 i0) fun a198 => jlt (jgi w193 39 i0 a198) fun v199 => if c33 ≤ 1200048 ∧ c34 ≤ 5501818 then jcb (f_X9_at v197 v199 w193) fun v200 w201 => if v192 = v200 then K1445 c33 c34 w201 else if c33 ≤ 1200048 ∧ c34 ≤ 5501818 then some (0, w201) else none else none else none else if v38 = 9 then jbd (v29 + 1) (jgn w30 39 i0) fun a205 => jlt (jgi w30 39 i0 a205) fun v206 => jbd (v29 + 2) (jgn w30 39 i0) fun a207 => jlt (jgi w30 39 i0 a207) fun v208 => if c33 + 0 ≤ 1200048 ∧ c34 + 0 ≤ 5501818 then jcb (f_X1_line v206 v208 w30) fun v209 w210 => jbd (v29 + 1) (jgn w210 39 i0) fun a216 => jlt (jgi w210 39 i0 a216) fun v217 => jbd (v29 + 2) (jgn w210 39 i0) fun a218 => jlt (jgi w210 39 i0 a218) fun v219 => if c33 + 0 ≤ 1200048 ∧ c34 + 0 ≤ 5501818 then jcb (f_X9_line v217 v219 w210) fun v220 w221 => if v209 = v220 then K1445 (c33 + 0) (c34 + 0) w221 else if c33 + 0 ≤ 1200048 ∧ c34 + 0 ≤ 5501818 then some (0, w221) else none else none else none else if v38 = 10 then if c33 + 4 ≤ 1200048 ∧ c34 + 236 ≤ 5501818 then jcb (f_X1_smooth w30) fun v225 w226 => if c33 + 4 ≤ 1200048 ∧ c34 + 236 ≤ 5501818 then jcb (f_X9_smooth w226) fun v232 w233 => if v225 = v232 then K1445 (c33 + 4) (c34 + 236) w233 else if c33 + 4 ≤ 1200048 ∧ c34 + 236 ≤ 5501818 then some (0, w233) else none else none else none else if v38 = 11 then if c33 + 4 ≤ 1200048 ∧ c34 + 236 ≤ 5501818 then jcb (f_X1_median w30) fun v237 w238 => if c33 + 4 ≤ 1200048 ∧ c34 + 236 ≤ 5501818 then jcb (f_X9_median w238) fun v244 w245 => if v237 = v244 then K1445 (c33 + 4) (c34 + 236) w245 else if c33 + 4 ≤ 1200048 ∧ c34 + 236 ≤ 5501818 then some (0, w245) else none else none else none else if v38 = 12 then if c33 + 4 ≤ 1200048 ∧ c34 + 236 ≤ 5501818 then jcb (f_X1_flat w30) fun v249 w250 => if c33 + 4 ≤ 1200048 ∧ c34 + 236 ≤ 5501818 then jcb (f_X9_flat w250) fun v256 w257 => if v249 = v256 then K1445 (c33 + 4) (c34 + 236) w257 else if c33 + 4 ≤ 1200048 ∧ c34 + 236 ≤ 5501818 then some (0, w257) else none else none else none else if v38 = 13 then if c33 + 4 ≤ 1200048 ∧ c34 + 236 ≤ 5501818 then jcb (f_X1_turn w30) fun v261 w262 => if c33 + 4 ≤ 1200048 ∧ c34 + 236 ≤ 5501818 then jcb (f_X9_turn w262) fun v268 w269 => if v261 = v268 then K1445 (c33 + 4) (c34 + 236) w269 else if c33 + 4 ≤ 1200048 ∧ c34 + 236 ≤ 5501818 then some (0, w269) else none else none else none else if v38 = 14 then jbd (v29 + 1) (jgn w30 39 i0) fun a273 => jlt (jgi w30 39 i0 a273) fun v274 => if c33 + 4 ≤ 1200048 ∧ c34 + 236 ≤ 5501818 then jcb (f_X1_clip v274 w30) fun v275 w276 => jbd (v29 + 1) (jgn w276 39 i0) fun a282 => jlt (jgi w276 39 i0 a282) fun v283 => if c33 + 4 ≤ 1200048 ∧ c34 + 236 ≤ 5501818 then jcb (f_X9_clip v283 w276) fun v284 w285 => if v275 = v284 then K1445 (c33 + 4) (c34 + 236) w285 else if c33 + 4 ≤ 1200048 ∧ c34 + 236 ≤ 5501818 then some (0, w285) else none else none else none else if v38 = 15 then jbd (v29 + 1) (jgn w30 39 i0) fun a289 => jlt (jgi w30 39 i0 a289) fun v290 => if c33 + 4 ≤ 1200048 ∧ c34 + 236 ≤ 5501818 then jcb (f_X1_lift v290 w30) fun v291 w292 => jbd (v29 + 1) (jgn w292 39 i0) fun a298 => jlt (jgi w292 39 i0 a298) fun v299 => if c33 + 4 ≤ 1200048 ∧ c34 + 236 ≤ 5501818 then jcb (f_X9_lift v299 w292) fun v300 w301 => if v291 = v300 then K1445 (c33 + 4) (c34 + 236) w301 else if c33 + 4 ≤ 1200048 ∧ c34 + 236 ≤ 5501818 then some (0, w301) else none else none else none else if v38 = 16 then jbd (v29 + 1) (jgn w30 39 i0) fun a305 => jlt (jgi w30 39 i0 a305) fun v306 => jbd (v29 + 2) (jgn w30 39 i0) fun a307 => jlt (jgi w30 39 i0 a307) fun v308 => if c33 + 4 ≤ 1200048 ∧ c34 + 236 ≤ 5501818 then jcb (f_X1_scale v306 v308 w30) fun v309 w310 => jbd (v29 + 1) (jgn w310 39 i0) fun a316 => jlt (jgi w310 39 i0 a316) fun v317 => jbd (v29 + 2) (jgn w310 39 i0) fun a318 => jlt (jgi w310 39 i0 a318) fun v319 => if c33 + 4 ≤ 1200048 ∧ c34 + 236 ≤ 5501818 then jcb (f_X9_scale v317 v319 w310) fun v320 w321 => if v309 = v320 then K1445 (c33 + 4) (c34 + 236) w321 else if c33 + 4 ≤ 1200048 ∧ c34 + 236 ≤ 5501818 then some (0, w321) else none else none else none else if v38 = 17 then jbd (v29 + 1) (jgn w30 39 i0) fun a325 => jlt (jgi w30 39 i0 a325) fun v326 => jbd (v29 + 2) (jgn w30 39 i0) fun a327 => jlt (jgi w30 39 i0 a327) fun v328 => if c33 + 4 ≤ 1200048 ∧ c34 + 236 ≤ 5501818 then jcb (f_X1_set v326 v328 w30) fun v329 w330 => jbd (v29 + 1) (jgn w330 39 i0) fun a336 => jlt (jgi w330 39 i0 a336) fun v337 => jbd (v29 + 2) (jgn w330 39 i0) fun a338 => jlt (jgi w330 39 i0 a338) fun v339 => if c33 + 4 ≤ 1200048 ∧ c34 + 236 ≤ 5501818 then jcb (f_X9_set v337 v339 w330) fun v340 w341 => if v329 = v340 then K1445 (c33 + 4) (c34 + 236) w341 else if c33 + 4 ≤ 1200048 ∧ c34 + 236 ≤ 5501818 then some (0, w341) else none else none else none else if v38 = 18 then jbd (v29 + 1) (jgn w30 39 i0) fun a345 => jlt (jgi w30 39 i0 a345) fun v346 => if c33 + 4 ≤ 1200048 ∧ c34 + 236 ≤ 5501818 then jcb (f_X1_noise v346 w30) fun v347 w348 => jbd (v29 + 1) (jgn w348 39 i0) fun a354 => jlt (jgi w348 39 i0 a354) fun v355 => if c33 + 4 ≤ 1200048 ∧ c34 + 236 ≤ 5501818 then jcb (f_X9_noise v355 w348) fun v356 w357 => if v347 = v356 then K1445 (c33 + 4) (c34 + 236) w357 else if c33 + 4 ≤ 1200048 ∧ c34 + 236 ≤ 5501818 then some (0, w357) else none else none else none else if v38 = 19 then jbd (v29 + 1) (jgn w30 39 i0) fun a361 => jlt (jgi w30 39 i0 a361) fun v362 => jbd (v29 + 2) (jgn w30 39 i0) fun a363 => jlt (jgi w30 39 i0 a363) fun v364 => if c33 + 4 ≤ 1200048 ∧ c34 + 236 ≤ 5501818 then jcb (f_X1_cut v362 v364 w30) fun v365 w366 => jbd (v29 + 1) (jgn w366 39 i0) fun a372 => jlt (jgi w366 39 i0 a372) fun v373 => jbd (v29 + 2) (jgn w366 39 i0) fun a374 => jlt (jgi w366 39 i0 a374) fun v375 => if c33 + 4 ≤ 1200048 ∧ c34 + 236 ≤ 5501818 then jcb (f_X9_cut v373 v375 w366) fun v376 w377 => if v365 = v376 then K1445 (c33 + 4) (c34 + 236) w377 else if c33 + 4 ≤ 1200048 ∧ c34 + 236 ≤ 5501818 then some (0, w377) else none else none else none else if v38 = 20 then jbd (v29 + 1) (jgn w30 39 i0) fun a381 => jlt (jgi w30 39 i0 a381) fun v382 => jbd (v29 + 2) (jgn w30 39 i0) fun a383 => jlt (jgi w30 39 i0 a383) fun v384 => jbd (v29 + 3) (jgn w30 39 i0) fun a385 => jlt (jgi w30 39 i0 a385) fun v386 => if c33 + 160 ≤ 1200048 ∧ c34 + 9440 ≤ 5501818 then jcb (f_X1_ways v382 ((v384.toInt64 <<< ((32 : Int32).toInt64 &&& 63)) ||| (v386.toInt64 &&& 4294967295)) w30) fun v387 w388 => jbd (v29 + 1) (jgn w388 39 i0) fun a394 => jlt (jgi w388 39 i0 a394) fun v395 => jbd (v29 + 2) (jgn w388 39 i0) fun a396 => jlt (jgi w388 39 i0 a396) fun v397 => jbd (v29 + 3) (jgn w388 39 i0) fun a398 => jlt (jgi w388 39 i0 a398) fun v399 => if c33 + 160 ≤ 1200048 ∧ c34 + 9440 ≤ 5501818 then jcb (f_X9_ways v395 ((v397.toInt64 <<< ((32 : Int32).toInt64 &&& 63)) ||| (v399.toInt64 &&& 4294967295)) w388) fun v400 w401 => if v387 = v400 then K1445 (c33 + 160) (c34 + 9440) w401 else if c33 + 160 ≤ 1200048 ∧ c34 + 9440 ≤ 5501818 then some (0, w401) else none else none else none else if v38 = 21 then jbd (v29 + 1) (jgn w30 39 i0) fun a405 => jlt (jgi w30 39 i0 a405) fun v406 => if c33 ≤ 1200048 ∧ c34 ≤ 5501818 then jcb (f_X1_status v406 w30) fun v407 w408 => jbd (v29 + 1) (jgn w408 39 i0) fun a411 => jlt (jgi w408 39 i0 a411) fun v412 => if c33 ≤ 1200048 ∧ c34 ≤ 5501818 then jcb (f_X9_status v412 w408) fun v413 w414 => if v407 = v413 then K1445 c33 c34 w414 else if c33 ≤ 1200048 ∧ c34 ≤ 5501818 then some (0, w414) else none else none else none else if v38 = 22 then if c33 ≤ 1200048 ∧ c34 ≤ 5501818 then jcb (f_X1_undo w30) fun v418 w419 => if c33 ≤ 1200048 ∧ c34 ≤ 5501818 then jcb (f_X9_undo w419) fun v422 w423 => if v418 = v422 then K1445 c33 c34 w423 else if c33 ≤ 1200048 ∧ c34 ≤ 5501818 then some (0, w423) else none else none else none else if v38 = 23 then jbd (v29 + 1) (jgn w30 39 i0) fun a427 => jlt (jgi w30 39 i0 a427) fun v428 => jbd (v29 + 2) (jgn w30 39 i0) fun a429 => jlt (jgi w30 39 i0 a429) fun v430 => if c33 ≤ 1200048 ∧ c34 ≤ 5501818 then jcb (f_X1_log v428 v430 w30) fun v431 w432 => jbd (v29 + 1) (jgn w432 39 i0) fun a435 => jlt (jgi w432 39 i0 a435) fun v436 => jbd (v29 + 2) (jgn w432 39 i0) fun a437 => jlt (jgi w432 39 i0 a437) fun v438 => if c33 ≤ 1200048 ∧ c34 ≤ 5501818 then jcb (f_X9_log v436 v438 w432) fun v439 w440 => if v431 = v439 then K1445 c33 c34 w440 else if c33 ≤ 1200048 ∧ c34 ≤ 5501818 then some (0, w440) else none else none else none else if v38 = 24 then jbd (v29 + 1) (jgn w30 39 i0) fun a444 => jlt (jgi w30 39 i0 a444) fun v445 => if c33 ≤ 1200048 ∧ c34 ≤ 5501818 then jcb (f_X1_noiseFor v445 w30) fun v446 w447 => jbd (v29 + 1) (jgn w447 39 i0) fun a450 => jlt (jgi w447 39 i0 a450) fun v451 => if c33 ≤ 1200048 ∧ c34 ≤ 5501818 then jcb (f_X9_noiseFor v451 w447) fun v452 w453 => if v446 = v452 then K1445 c33 c34 w453 else if c33 ≤ 1200048 ∧ c34 ≤ 5501818 then some (0, w453) else none else none else none else if v38 = 25 then jbd (v29 + 1) (jgn w30 39 i0) fun a457 => jlt (jgi w30 39 i0 a457) fun v458 => if c33 ≤ 1200048 ∧ c34 ≤ 5501818 then jcb (f_X1_pieces v458 w30) fun v459 w460 => jbd (v29 + 1) (jgn w460 39 i0) fun a463 => jlt (jgi w460 39 i0 a463) fun v464 => if c33 ≤ 1200048 ∧ c34 ≤ 5501818 then jcb (f_X9_pieces v464 w460) fun v465 w466 => if v459 = v465 then K1445 c33 c34 w466 else if c33 ≤ 1200048 ∧ c34 ≤ 5501818 then some (0, w466) else none else none else none else if v38 = 26 then jbd (v29 + 1) (jgn w30 39 i0) fun a470 => jlt (jgi w30 39 i0 a470) fun v471 => if c33 ≤ 1200048 ∧ c34 ≤ 5501818 then jcb (f_X1_room v471 w30) fun v472 w473 => jbd (v29 + 1) (jgn w473 39 i0) fun a476 => jlt (jgi w473 39 i0 a476) fun v477 => if c33 ≤ 1200048 ∧ c34 ≤ 5501818 then jcb (f_X9_room v477 w473) fun v478 w479 => if v472 = v478 then K1445 c33 c34 w479 else if c33 ≤ 1200048 ∧ c34 ≤ 5501818 then some (0, w479) else none else none else none else if v38 = 27 then if c33 ≤ 1200048 ∧ c34 ≤ 5501818 then jcb (f_X1_unlike w30) fun v483 w484 => if c33 ≤ 1200048 ∧ c34 ≤ 5501818 then jcb (f_X9_unlike w484) fun v487 w488 => if v483 = v487 then K1445 c33 c34 w488 else if c33 ≤ 1200048 ∧ c34 ≤ 5501818 then some (0, w488) else none else none else none else if v38 = 28 then jbd (v29 + 1) (jgn w30 39 i0) fun a492 => jlt (jgi w30 39 i0 a492) fun v493 => if c33 ≤ 1200048 ∧ c34 ≤ 5501818 then jcb (f_X1_shift v493 w30) fun v494 w495 => jbd (v29 + 1) (jgn w495 39 i0) fun a498 => jlt (jgi w495 39 i0 a498) fun v499 => if c33 ≤ 1200048 ∧ c34 ≤ 5501818 then jcb (f_X9_shift v499 w495) fun v500 w501 => if v494 = v500 then K1445 c33 c34 w501 else if c33 ≤ 1200048 ∧ c34 ≤ 5501818 then some (0, w501) else none else none else none else if v38 = 29 then if c33 ≤ 1200048 ∧ c34 ≤ 5501818 then jcb (f_X1_missed w30) fun v505 w506 => if c33 ≤ 1200048 ∧ c34 ≤ 5501818 then jcb (f_X9_missed w506) fun v509 w510 => if v505 = v509 then K1445 c33 c34 w510 else if c33 ≤ 1200048 ∧ c34 ≤ 5501818 then some (0, w510) else none else none else none else if v38 = 30 then jbd (v29 + 1) (jgn w30 39 i0) fun a514 => jlt (jgi w30 39 i0 a514) fun v515 => jbd (v29 + 2) (jgn w30 39 i0) fun a516 => jlt (jgi w30 39 i0 a516) fun v517 => jbd (v29 + 3) (jgn w30 39 i0) fun a518 => jlt (jgi w30 39 i0 a518) fun v519 => if c33 ≤ 1200048 ∧ c34 ≤ 5501818 then jcb (f_X1_would v515 v517 v519 w30) fun v520 w521 => jbd (v29 + 1) (jgn w521 39 i0) fun a524 => jlt (jgi w521 39 i0 a524) fun v525 => jbd (v29 + 2) (jgn w521 39 i0) fun a526 => jlt (jgi w521 39 i0 a526) fun v527 => jbd (v29 + 3) (jgn w521 39 i0) fun a528 => jlt (jgi w521 39 i0 a528) fun v529 => if c33 ≤ 1200048 ∧ c34 ≤ 5501818 then jcb (f_X9_would v525 v527 v529 w521) fun v530 w531 => if v520 = v530 then K1445 c33 c34 w531 else if c33 ≤ 1200048 ∧ c34 ≤ 5501818 then some (0, w531) else none else none else none else if v38 = 31 then if c33 + 1 ≤ 1200048 ∧ c34 + 2 ≤ 5501818 then jcb (f_X1_solo w30) fun v535 w536 => if c33 + 1 ≤ 1200048 ∧ c34 + 2 ≤ 5501818 then jcb (f_X9_solo w536) fun v542 w543 => if v535 = v542 then K1445 (c33 + 1) (c34 + 2) w543 else if c33 + 1 ≤ 1200048 ∧ c34 + 2 ≤ 5501818 then some (0, w543) else none else none else none else if v38 = 32 then jbd (v29 + 1) (jgn w30 39 i0) fun a547 => jlt (jgi w30 39 i0 a547) fun v548 => if c33 + 1 ≤ 1200048 ∧ c34 + 2 ≤ 5501818 then jcb (f_X1_tallest v548 w30) fun v549 w550 => jbd (v29 + 1) (jgn w550 39 i0) fun a556 => jlt (jgi w550 39 i0 a556) fun v557 => if c33 + 1 ≤ 1200048 ∧ c34 + 2 ≤ 5501818 then jcb (f_X9_tallest v557 w550) fun v558 w559 => if v549 = v558 then K1445 (c33 + 1) (c34 + 2) w559 else if c33 + 1 ≤ 1200048 ∧ c34 + 2 ≤ 5501818 then some (0, w559) else none else none else none else if v38 = 33 then jbd (v29 + 1) (jgn w30 39 i0) fun a563 => jlt (jgi w30 39 i0 a563) fun v564 => if c33 ≤ 1200048 ∧ c34 ≤ 5501818 then jcb (f_X1_change v564 w30) fun v565 w566 => jbd (v29 + 1) (jgn w566 39 i0) fun a569 => jlt (jgi w566 39 i0 a569) fun v570 => if c33 ≤ 1200048 ∧ c34 ≤ 5501818 then jcb (f_X9_change v570 w566) fun v571 w572 => if v565 = v571 then K1445 c33 c34 w572 else if c33 ≤ 1200048 ∧ c34 ≤ 5501818 then some (0, w572) else none else none else none else if v38 = 34 then jbd (v29 + 1) (jgn w30 39 i0) fun a576 => jlt (jgi w30 39 i0 a576) fun v577 => jbd (v29 + 2) (jgn w30 39 i0) fun a578 => jlt (jgi w30 39 i0 a578) fun v579 => if c33 + 20 ≤ 1200048 ∧ c34 + 8000 ≤ 5501818 then jcb (f_X1_spell v577 v579 w30) fun v580 w581 => jbd (v29 + 1) (jgn w581 39 i0) fun a587 => jlt (jgi w581 39 i0 a587) fun v588 => jbd (v29 + 2) (jgn w581 39 i0) fun a589 => jlt (jgi w581 39 i0 a589) fun v590 => if c33 + 20 ≤ 1200048 ∧ c34 + 8000 ≤ 5501818 then jcb (f_X9_spell v588 v590 w581) fun v591 w592 => if v580 = v591 then K1445 (c33 + 20) (c34 + 8000) w592 else if c33 + 20 ≤ 1200048 ∧ c34 + 8000 ≤ 5501818 then some (0, w592) else none else none else none else if v38 = 35 then jbd (v29 + 1) (jgn w30 39 i0) fun a596 => jlt (jgi w30 39 i0 a596) fun v597 => jbd (v29 + 2) (jgn w30 39 i0) fun a598 => jlt (jgi w30 39 i0 a598) fun v599 => jbd (v29 + 3) (jgn w30 39 i0) fun a600 => jlt (jgi w30 39 i0 a600) fun v601 => if c33 ≤ 1200048 ∧ c34 ≤ 5501818 then jcb (f_X1_step v597 v599 v601 w30) fun v602 w603 => jbd (v29 + 1) (jgn w603 39 i0) fun a606 => jlt (jgi w603 39 i0 a606) fun v607 => jbd (v29 + 2) (jgn w603 39 i0) fun a608 => jlt (jgi w603 39 i0 a608) fun v609 => jbd (v29 + 3) (jgn w603 39 i0) fun a610 => jlt (jgi w603 39 i0 a610) fun v611 => if c33 ≤ 1200048 ∧ c34 ≤ 5501818 then jcb (f_X9_step v607 v609 v611 w603) fun v612 w613 => if v602 = v612 then K1445 c33 c34 w613 else if c33 ≤ 1200048 ∧ c34 ≤ 5501818 then some (0, w613) else none else none else none else if v38 = 36 then jbd (v29 + 1) (jgn w30 39 i0) fun a617 => jlt (jgi w30 39 i0 a617) fun v618 => jbd (v29 + 2) (jgn w30 39 i0) fun a619 => jlt (jgi w30 39 i0 a619) fun v620 => if c33 ≤ 1200048 ∧ c34 ≤ 5501818 then jcb (f_X1_run v618 v620 w30) fun v621 w622 => jbd (v29 + 1) (jgn w622 39 i0) fun a625 => jlt (jgi w622 39 i0 a625) fun v626 => jbd (v29 + 2) (jgn w622 39 i0) fun a627 => jlt (jgi w622 39 i0 a627) fun v628 => if c33 ≤ 1200048 ∧ c34 ≤ 5501818 then jcb (f_X9_run v626 v628 w622) fun v629 w630 => if v621 = v629 then K1445 c33 c34 w630 else if c33 ≤ 1200048 ∧ c34 ≤ 5501818 then some (0, w630) else none else none else none else if v38 = 37 then jbd (v29 + 1) (jgn w30 39 i0) fun a634 => jlt (jgi w30 39 i0 a634) fun v635 => if c33 + 48 ≤ 1200048 ∧ c34 + 2832 ≤ 5501818 then jcb (f_X1_perform v635 w30) fun v636 w637 => jbd (v29 + 1) (jgn w637 39 i0) fun a643 => jlt (jgi w637 39 i0 a643) fun v644 => if c33 + 48 ≤ 1200048 ∧ c34 + 2832 ≤ 5501818 then jcb (f_X9_perform v644 w637) fun v645 w646 => if v636 = v645 then K1445 (c33 + 48) (c34 + 2832) w646 else if c33 + 48 ≤ 1200048 ∧ c34 + 2832 ≤ 5501818 then some (0, w646) else none else none else none else if v38 = 38 then jbd (v29 + 1) (jgn w30 39 i0) fun a650 => jlt (jgi w30 39 i0 a650) fun v651 => if c33 + 1 ≤ 1200048 ∧ c34 + 2 ≤ 5501818 then jcb (f_X1_most v651 w30) fun v652 w653 => jbd (v29 + 1) (jgn w653 39 i0) fun a659 => jlt (jgi w653 39 i0 a659) fun v660 => if c33 + 1 ≤ 1200048 ∧ c34 + 2 ≤ 5501818 then jcb (f_X9_most v660 w653) fun v661 w662 => if v652 = v661 then K1445 (c33 + 1) (c34 + 2) w662 else if c33 + 1 ≤ 1200048 ∧ c34 + 2 ≤ 5501818 then some (0, w662) else none else none else none else if v38 = 39 then if c33 ≤ 1200048 ∧ c34 ≤ 5501818 then jcb (f_X1_image w30) fun v666 w667 => if c33 ≤ 1200048 ∧ c34 ≤ 5501818 then jcb (f_X9_image w667) fun v670 w671 => if v666 = v670 then K1445 c33 c34 w671 else if c33 ≤ 1200048 ∧ c34 ≤ 5501818 then some (0, w671) else none else none else none else if v38 = 40 then if c33 ≤ 1200048 ∧ c34 ≤ 5501818 then jcb (f_X1_back w30) fun v675 w676 => if c33 ≤ 1200048 ∧ c34 ≤ 5501818 then jcb (f_X9_back w676) fun v679 w680 => if v675 = v679 then K1445 c33 c34 w680 else if c33 ≤ 1200048 ∧ c34 ≤ 5501818 then some (0, w680) else none else none else none else if v38 = 41 then jbd (v29 + 1) (jgn w30 39 i0) fun a684 => jlt (jgi w30 39 i0 a684) fun v685 => if c33 ≤ 1200048 ∧ c34 ≤ 5501818 then jcb (f_X1_held v685 w30) fun v686 w687 => jbd (v29 + 1) (jgn w687 39 i0) fun a690 => jlt (jgi w687 39 i0 a690) fun v691 => if c33 ≤ 1200048 ∧ c34 ≤ 5501818 then jcb (f_X9_held v691 w687) fun v692 w693 => if v686 = v692 then K1445 c33 c34 w693 else if c33 ≤ 1200048 ∧ c34 ≤ 5501818 then some (0, w693) else none else none else none else K1445 c33 c34 w30
def f_L_law (i0 : Nat) (w : j_St) : Option (Int32 × j_St) := jlt (jnw w 0 0 0) fun w3 => jcb (f_X1_init w3) fun _ w6 => jlt (jsr w6 13 0 0 (some 0)) fun w11 => jlt (jsr w11 13 2 0 (some 0)) fun w13 => jlt (jnw w13 1 0 0) fun w17 => jcb (f_X9_init w17) fun _ w20 => jlt (jnw w20 38 0 0) fun w27 => f_L_law_L23 i0 jFU 0 2030 41038 w27
abbrev rm_L_law : Room := { frames := 12, cells := 1200048, slots := 5501818, locals := 3101 }
set_option maxRecDepth 100000 in
set_option maxHeartbeats 4000000 in
theorem mt_L_law {g : j_G} {B : j_B} {i0 : Nat} {w : j_St} (b0 : B.2.1 39 i0 ∧ B.2.2 39 i0) (hL : j_lit g B) (hn3 : jgn w 103 0 = 0) (f0_0 : ¬ B.2.1 0 0) (f1_0 : ¬ B.2.1 1 0) (f38_0 : ¬ B.2.1 38 0) (f24_0 : ¬ B.2.1 24 0) (f10_0 : ¬ B.2.1 10 0) (f10_1 : ¬ B.2.1 10 1) (f25_0 : ¬ B.2.1 25 0) (f11_0 : ¬ B.2.1 11 0) (f11_1 : ¬ B.2.1 11 1) (f11_2 : ¬ B.2.1 11 2) (f13_1 : ¬ B.2.1 13 1) (f20_0 : ¬ B.2.1 20 0) (f22_0 : ¬ B.2.1 22 0) (f21_0 : ¬ B.2.1 21 0) (f2_0 : ¬ B.2.1 2 0) (f2_1 : ¬ B.2.1 2 1) (f4_0 : ¬ B.2.1 4 0) (f32_0 : ¬ B.2.1 32 0) (f23_0 : ¬ B.2.1 23 0) (f26_0 : ¬ B.2.1 26 0) (f27_0 : ¬ B.2.1 27 0) (f28_0 : ¬ B.2.1 28 0) (f29_0 : ¬ B.2.1 29 0) (f30_0 : ¬ B.2.1 30 0) (f31_0 : ¬ B.2.1 31 0) (f26_1 : ¬ B.2.1 26 1) (f27_1 : ¬ B.2.1 27 1) (f28_1 : ¬ B.2.1 28 1) (f29_1 : ¬ B.2.1 29 1) (f30_1 : ¬ B.2.1 30 1) (f31_1 : ¬ B.2.1 31 1) (f5_0 : ¬ B.2.1 5 0) (f4_1 : ¬ B.2.1 4 1) (f32_1 : ¬ B.2.1 32 1) (f33_0 : ¬ B.2.1 33 0) (f5_1 : ¬ B.2.1 5 1) (f4_3 : ¬ B.2.1 4 3) (f32_3 : ¬ B.2.1 32 3) (f33_1 : ¬ B.2.1 33 1) (f5_2 : ¬ B.2.1 5 2) (f4_5 : ¬ B.2.1 4 5) (f32_5 : ¬ B.2.1 32 5) (f33_2 : ¬ B.2.1 33 2) (f5_3 : ¬ B.2.1 5 3) (f4_7 : ¬ B.2.1 4 7) (f32_7 : ¬ B.2.1 32 7) (f33_3 : ¬ B.2.1 33 3) (f40_0 : ¬ B.2.1 40 0) (f41_0 : ¬ B.2.1 41 0) (f42_0 : ¬ B.2.1 42 0) (f43_0 : ¬ B.2.1 43 0) (f44_0 : ¬ B.2.1 44 0) (f45_0 : ¬ B.2.1 45 0) (f46_0 : ¬ B.2.1 46 0) (f47_0 : ¬ B.2.1 47 0) (f48_0 : ¬ B.2.1 48 0) (f49_0 : ¬ B.2.1 49 0) (f50_0 : ¬ B.2.1 50 0) (f51_0 : ¬ B.2.1 51 0) (f52_0 : ¬ B.2.1 52 0) (f53_0 : ¬ B.2.1 53 0) (f54_0 : ¬ B.2.1 54 0) (f55_0 : ¬ B.2.1 55 0) (f56_0 : ¬ B.2.1 56 0) (f57_0 : ¬ B.2.1 57 0) (f58_0 : ¬ B.2.1 58 0) (f59_0 : ¬ B.2.1 59 0) (f60_0 : ¬ B.2.1 60 0) (f61_0 : ¬ B.2.1 61 0) (f62_0 : ¬ B.2.1 62 0) (f63_0 : ¬ B.2.1 63 0) (f64_0 : ¬ B.2.1 64 0) (f65_0 : ¬ B.2.1 65 0) (f66_0 : ¬ B.2.1 66 0) (n26 : ∀ i, ¬ B.2.2 26 i) (o12_0 : B.2.1 12 0 ∧ B.1 12 0 = jgM g 112 0) (o12_1 : B.2.1 12 1 ∧ B.1 12 1 = jgM g 112 1) (o13_0 : B.2.1 13 0 ∧ B.1 13 0 = jgM g 113 0) (o13_2 : B.2.1 13 2 ∧ B.1 13 2 = jgM g 113 2) (x : j_X) (hx : j_C code 7 R_law ret room_1 g x) (harg : ∃ b, x.2.2.2.2.2.1 = #[Value.ref b]) (hsz : jgb g = x.2.2.2.1.heap.size) : J g x 7 B (j_QL x) 0 0 (f_L_law i0 w) 0 [(0, .ref (B.1 39 i0))] [] w := by
  unfold f_L_law
  refine J.sub (lv' := [(0, .ref (B.1 39 i0))]) [0] rfl ?_
  refine J.fact (P := ¬ B.2.2 0 0) (fun H hR z => f0_0 (hR.2.2.2.2.2.2.2.2.1 _ _ z)) fun h1 => ?_
  refine J.newE (κ := 0) (i := 0) hx rfl rfl in_X1 tyX1_ok (by decide +kernel) (by decide) f0_0 h1 (by simp [jcnt]) q165 q159 q120 ⟨Nat.le_of_ble_eq_true rfl, Nat.le_of_ble_eq_true rfl⟩ dL_law_0 fun z4 w3 e3x => ?_
  refine J.dup hx dL_law_3 rfl ?_
  refine J.callAv hx (fun r z1 z => j_callA_of (j_runI (κ := 0) hx (mt_X1_init jbn_alh (jbn_noK f24_0 (by decide)) (jbn_noK f10_0 (by decide)) (jbn_noK f10_1 (by decide)) (jbn_noK f25_0 (by decide)) (jbn_noK f11_0 (by decide)) (jbn_noK f11_1 (by decide)) (jbn_noK f11_2 (by decide)) (jbn_noK f13_1 (by decide)) (jbn_noK f20_0 (by decide)) (jbn_noK f22_0 (by decide)) (jbn_noK f21_0 (by decide)) (jbn_noK f2_0 (by decide)) (jbn_noK f2_1 (by decide)) (jbn_noK f4_0 (by decide)) (jbn_noK f32_0 (by decide)) (jbn_noK f23_0 (by decide)) (jbn_noK f26_0 (by decide)) (jbn_noK f27_0 (by decide)) (jbn_noK f28_0 (by decide)) (jbn_noK f29_0 (by decide)) (jbn_noK f30_0 (by decide)) (jbn_noK f31_0 (by decide)) (jbn_noK f26_1 (by decide)) (jbn_noK f27_1 (by decide)) (jbn_noK f28_1 (by decide)) (jbn_noK f29_1 (by decide)) (jbn_noK f30_1 (by decide)) (jbn_noK f31_1 (by decide)) (jbn_noK f5_0 (by decide)) (jbn_noK f4_1 (by decide)) (jbn_noK f32_1 (by decide)) (jbn_noK f33_0 (by decide)) (jbn_noK f5_1 (by decide)) (jbn_noK f4_3 (by decide)) (jbn_noK f32_3 (by decide)) (jbn_noK f33_1 (by decide)) (jbn_noK f5_2 (by decide)) (jbn_noK f4_5 (by decide)) (jbn_noK f32_5 (by decide)) (jbn_noK f33_2 (by decide)) (jbn_noK f5_3 (by decide)) (jbn_noK f4_7 (by decide)) (jbn_noK f32_7 (by decide)) (jbn_noK f33_3 (by decide)) h1 n26 ((j_ext.rf.tr (jbn_ext f0_0)).one o12_0) ((j_ext.rf.tr (jbn_ext f0_0)).one o12_1) ((j_ext.rf.tr (jbn_ext f0_0)).one o13_0) ((j_ext.rf.tr (jbn_ext f0_0)).one o13_2) z) (lw_meth q168) q166 q167 q120 rfl hd_X1_init.2 rfl ⟨Nat.le_of_ble_eq_true rfl, Nat.le_of_ble_eq_true rfl⟩ (Nat.le_of_ble_eq_true rfl) dL_law_4)) ⟨Nat.le_of_ble_eq_true rfl, Nat.le_of_ble_eq_true rfl⟩ fun _ w6 B8 e7 x9 x10 => ?_
  refine J.cv (lv' := [(0, .ref (B8.1 39 i0))]) (st' := [.ref (B8.1 0 0)]) (by first | rfl | (simp only [x9.ad (jbn_old b0), x9.adh jbn_alh]; done) | (simp only [x9.ad (jbn_old b0), x9.adh jbn_alh]; rfl)) (by first | rfl | (simp only [x9.ad (jbn_old b0), x9.adh jbn_alh]; done) | (simp only [x9.ad (jbn_old b0), x9.adh jbn_alh]; rfl)) ?_
  refine J.set13 (i := 0) rfl (((j_ext.rf.tr (jbn_ext f0_0)).tr x9).one o13_0).1 (x9.mvh jbn_alh).1 fun w11 e12 => ?_
  refine J.set13 (i := 2) rfl (((j_ext.rf.tr (jbn_ext f0_0)).tr x9).one o13_2).1 (x9.mvh jbn_alh).1 fun w13 e14 => ?_
  refine J.fact (P := ∀ κ i k j, B8.2.1 κ i → jgr w13 κ i k = some j → B8.2.1 (jfk κ k) j) (fun H hR => hR.2.2.2.2.2.1) fun h6x => ?_
  refine J.built (jSX1 B8) (jb_X1i e7 (x9.mvh jbn_alh) x10 (((j_ext.rf.tr (jbn_ext f0_0)).tr x9).one o12_0) (((j_ext.rf.tr (jbn_ext f0_0)).tr x9).one o12_1) (((j_ext.rf.tr (jbn_ext f0_0)).tr x9).one o13_0) (((j_ext.rf.tr (jbn_ext f0_0)).tr x9).one o13_2) e12 e14 (by rw [e3x]; exact hn3) h6x) ?_
  refine J.astore_n (lv' := [(1, .ref ((jbb B8 (jSX1 B8)).1 0 0)), (0, .ref ((jbb B8 (jSX1 B8)).1 39 i0))]) hx dL_law_7 rfl (by decide) rfl ?_
  refine J.fact (P := ¬ (jbb B8 (jSX1 B8)).2.2 1 0) (fun H hR z => (jbb_no (x10.no (jbn_noK f1_0 (by decide)) (by simp))) (hR.2.2.2.2.2.2.2.2.1 _ _ z)) fun h15 => ?_
  refine J.new (κ := 1) (i := 0) hx rfl rfl in_X9 tyX9_ok (by decide +kernel) (by decide) (jbb_no (x10.no (jbn_noK f1_0 (by decide)) (by simp))) h15 (by simp [jcnt]) q1647 q1648 q129 ⟨Nat.le_of_ble_eq_true rfl, Nat.le_of_ble_eq_true rfl⟩ dL_law_8 fun z18 w17 => ?_
  refine J.dup hx dL_law_11 rfl ?_
  refine J.callAv hx (fun r z1 z => j_callA_of (j_runI (κ := 1) hx (mt_X9_init jbn_alh (jbn_noK (jbb_no (x10.no (jbn_noK f40_0 (by decide)) (by simp))) (by decide)) (jbn_noK (jbb_no (x10.no (jbn_noK f41_0 (by decide)) (by simp))) (by decide)) (jbn_noK (jbb_no (x10.no (jbn_noK f42_0 (by decide)) (by simp))) (by decide)) (jbn_noK (jbb_no (x10.no (jbn_noK f43_0 (by decide)) (by simp))) (by decide)) (jbn_noK (jbb_no (x10.no (jbn_noK f44_0 (by decide)) (by simp))) (by decide)) (jbn_noK (jbb_no (x10.no (jbn_noK f45_0 (by decide)) (by simp))) (by decide)) (jbn_noK (jbb_no (x10.no (jbn_noK f46_0 (by decide)) (by simp))) (by decide)) (jbn_noK (jbb_no (x10.no (jbn_noK f47_0 (by decide)) (by simp))) (by decide)) (jbn_noK (jbb_no (x10.no (jbn_noK f48_0 (by decide)) (by simp))) (by decide)) (jbn_noK (jbb_no (x10.no (jbn_noK f49_0 (by decide)) (by simp))) (by decide)) (jbn_noK (jbb_no (x10.no (jbn_noK f50_0 (by decide)) (by simp))) (by decide)) (jbn_noK (jbb_no (x10.no (jbn_noK f51_0 (by decide)) (by simp))) (by decide)) (jbn_noK (jbb_no (x10.no (jbn_noK f52_0 (by decide)) (by simp))) (by decide)) (jbn_noK (jbb_no (x10.no (jbn_noK f53_0 (by decide)) (by simp))) (by decide)) (jbn_noK (jbb_no (x10.no (jbn_noK f54_0 (by decide)) (by simp))) (by decide)) (jbn_noK (jbb_no (x10.no (jbn_noK f55_0 (by decide)) (by simp))) (by decide)) (jbn_noK (jbb_no (x10.no (jbn_noK f56_0 (by decide)) (by simp))) (by decide)) (jbn_noK (jbb_no (x10.no (jbn_noK f57_0 (by decide)) (by simp))) (by decide)) (jbn_noK (jbb_no (x10.no (jbn_noK f58_0 (by decide)) (by simp))) (by decide)) (jbn_noK (jbb_no (x10.no (jbn_noK f59_0 (by decide)) (by simp))) (by decide)) (jbn_noK (jbb_no (x10.no (jbn_noK f60_0 (by decide)) (by simp))) (by decide)) (jbn_noK (jbb_no (x10.no (jbn_noK f61_0 (by decide)) (by simp))) (by decide)) (jbn_noK (jbb_no (x10.no (jbn_noK f62_0 (by decide)) (by simp))) (by decide)) (jbn_noK (jbb_no (x10.no (jbn_noK f63_0 (by decide)) (by simp))) (by decide)) (jbn_noK (jbb_no (x10.no (jbn_noK f64_0 (by decide)) (by simp))) (by decide)) (jbn_noK (jbb_no (x10.no (jbn_noK f65_0 (by decide)) (by simp))) (by decide)) (jbn_noK (jbb_no (x10.no (jbn_noK f66_0 (by decide)) (by simp))) (by decide)) h15 z) (lw_meth q1651) q1649 q1650 q129 rfl hd_X9_init.2 rfl ⟨Nat.le_of_ble_eq_true rfl, Nat.le_of_ble_eq_true rfl⟩ (Nat.le_of_ble_eq_true rfl) dL_law_12)) ⟨Nat.le_of_ble_eq_true rfl, Nat.le_of_ble_eq_true rfl⟩ fun _ w20 B22 e21 x23 x24 => ?_
  refine J.cv (lv' := [(1, .ref (B22.1 0 0)), (0, .ref (B22.1 39 i0))]) (st' := [.ref (B22.1 1 0)]) (by first | rfl | (simp only [x23.ad (jbn_old (jbb_own (S := jSX1 B8) (x9.mvh jbn_alh).1 jSX1_o)), x23.ad (jbn_old (jbb_ext.mv (x9.mv (jbn_old b0)))), x23.adh jbn_alh]; done) | (simp only [x23.ad (jbn_old (jbb_own (S := jSX1 B8) (x9.mvh jbn_alh).1 jSX1_o)), x23.ad (jbn_old (jbb_ext.mv (x9.mv (jbn_old b0)))), x23.adh jbn_alh]; rfl)) (by first | rfl | (simp only [x23.ad (jbn_old (jbb_own (S := jSX1 B8) (x9.mvh jbn_alh).1 jSX1_o)), x23.ad (jbn_old (jbb_ext.mv (x9.mv (jbn_old b0)))), x23.adh jbn_alh]; done) | (simp only [x23.ad (jbn_old (jbb_own (S := jSX1 B8) (x9.mvh jbn_alh).1 jSX1_o)), x23.ad (jbn_old (jbb_ext.mv (x9.mv (jbn_old b0)))), x23.adh jbn_alh]; rfl)) ?_
  refine J.built (jSX9 B22) (jb_X9i e21 (x23.mvh jbn_alh) x24) ?_
  refine J.astore_n (lv' := [(2, .ref ((jbb B22 (jSX9 B22)).1 1 0)), (1, .ref ((jbb B22 (jSX9 B22)).1 0 0)), (0, .ref ((jbb B22 (jSX9 B22)).1 39 i0))]) hx dL_law_15 rfl (by decide) rfl ?_
  refine J.iconst (v := 1) hx dL_law_16 (by decide) ?_
  refine J.fact (P := ¬ (jbb B22 (jSX9 B22)).2.2 38 0) (fun H hR z => (jbb_no (x24.no (jbn_noK (jbb_no (x10.no (jbn_noK f38_0 (by decide)) (by simp))) (by decide)) (by simp))) (hR.2.2.2.2.2.2.2.2.1 _ _ z)) fun h25 => ?_
  refine J.newa (κ := 38) (i := 0) (m := 0) (n := 1) (ty := .long) hx ⟨by decide, by decide⟩ rfl rfl (fun _ _ => rfl) (by decide) rfl (by decide) (by decide) rfl (fun _ => ⟨Iff.rfl, Iff.rfl⟩) (by decide) (jbb_no (x24.no (jbn_noK (jbb_no (x10.no (jbn_noK f38_0 (by decide)) (by simp))) (by decide)) (by simp))) h25 (by simp [jcnt]) q1810 (by decide) ⟨Nat.le_of_ble_eq_true rfl, Nat.le_of_ble_eq_true rfl⟩ dL_law_17 fun z28 w27 => J.built (fun a b => a = 38 ∧ b = 0) (jN_b jn3_38) ?_
  refine J.astore_n (lv' := [(3, .ref ((jbN (jbb B22 (jSX9 B22)) 38 0 z28).1 38 0)), (2, .ref ((jbb B22 (jSX9 B22)).1 1 0)), (1, .ref ((jbb B22 (jSX9 B22)).1 0 0)), (0, .ref ((jbb B22 (jSX9 B22)).1 39 i0))]) hx dL_law_19 rfl (by decide) rfl ?_
  refine J.iconst (v := 0) hx dL_law_20 (by decide) ?_
  refine J.istore (lv' := [(4, .int 0), (3, .ref ((jbN (jbb B22 (jSX9 B22)) 38 0 z28).1 38 0)), (2, .ref ((jbb B22 (jSX9 B22)).1 1 0)), (1, .ref ((jbb B22 (jSX9 B22)).1 0 0)), (0, .ref ((jbb B22 (jSX9 B22)).1 39 i0))]) hx dL_law_21 (by decide) rfl ?_
  have hL23 : ∀ (n23 : Nat) (v29 : Int32) (c33 c34 : Nat) (B31 : j_B) (x32 : j_ext (jbN (jbb B22 (jSX9 B22)) 38 0 z28) B31) (w30 : j_St), J g x 7 B31 (j_QL x) c33 c34 (f_L_law_L23 i0 n23 v29 c33 c34 w30) 23 [(0, .ref (B31.1 39 i0)), (1, .ref (B31.1 0 0)), (2, .ref (B31.1 1 0)), (3, .ref (B31.1 38 0)), (4, .int v29)] [] w30 := by
    intro n23
    induction n23 with
    | zero =>
      intro v29 c33 c34 B31 x32 w30
      rw [f_L_law_L23]
      exact J.nne
    | succ n23 ih =>
      intro v29 c33 c34 B31 x32 w30
      rw [f_L_law_L23]
      refine J.iload hx dL_law_23 4 rfl ?_
      refine J.aload_n hx dL_law_25 rfl 0 rfl ?_
      refine J.alen8 (κ := 39) (v := Int32.ofNat (jgn w30 39 i0)) hx rfl rfl rfl (x32.mv (jN_old (jbb_ext.mv (x23.mv (jbn_old (jbb_ext.mv (x9.mv (jbn_old b0)))))))).1 dL_law_26 ?_
      refine J.bipush (v := 6) hx dL_law_27 (by decide) ?_
      refine J.isub hx dL_law_29 ?_
      refine J.icmp_gt (tgt := 1451) hx dL_law_30 (by decide) ?_ ?_
      · refine J.iconst (v := 1) hx dL_law_1451 (by decide) ?_
        refine J.ite (fun h35 => ?_) (fun _ => J.nne)
        exact J.retL hx harg hsz h35.1 h35.2 dL_law_1452
      · refine J.aload_n hx dL_law_33 rfl 0 rfl ?_
        refine J.iload hx dL_law_34 4 rfl ?_
        refine J.iald8 (κ := 39) hx rfl rfl rfl (x32.mv (jN_old (jbb_ext.mv (x23.mv (jbn_old (jbb_ext.mv (x9.mv (jbn_old b0)))))))).1 dL_law_36 fun v37 => ?_
        refine J.bipush (v := 63) hx dL_law_37 (by decide) ?_
        refine J.iand hx dL_law_39 ?_
        refine J.nmi fun v38 => ?_
        refine J.fn (fun (K1445 : Nat → Nat → j_St → Option (Int32 × j_St)) => ∀  (c700 : Nat) (c701 : Nat) (B698 : j_B) (x699 : j_ext B31 B698) (w697 : j_St), J g x 7 B698 (j_QL x) c700 c701 (K1445 c700 c701 w697) 1445 [(0, .ref (B698.1 39 i0)), (1, .ref (B698.1 0 0)), (2, .ref (B698.1 1 0)), (3, .ref (B698.1 38 0)), (4, .int v29)] [] w697) ?_ ?_
        · intro c700 c701 B698 x699 w697
          refine J.nmx fun v702 ev702 => ?_
          refine J.iinc (p := 4) (v := v702) (lv' := [(4, .int v702), (0, .ref (B698.1 39 i0)), (1, .ref (B698.1 0 0)), (2, .ref (B698.1 1 0)), (3, .ref (B698.1 38 0))]) hx dL_law_1445 rfl (by rw [ev702]; rfl) (by decide) rfl ?_
          refine J.goto (tgt := 23) hx dL_law_1448 (by decide) ?_
          exact J.sub [1, 2, 3, 4, 0] rfl (ih v702 c700 c701 B698 (x32.tr x699) w697)
        · intro K1445 hK1445
          refine J.ite (fun e0 => ?_) (fun n0 => ?_)
          · refine J.tsw (off := 184) (tgt := 224) hx dL_law_40 (by rw [e0]; decide) (by rw [e0]; decide) (by rw [e0]; rfl) (by decide) ?_
            refine J.aload_n hx dL_law_224 rfl 1 rfl ?_
            refine J.aload_n hx dL_law_225 rfl 0 rfl ?_
            refine J.iload hx dL_law_226 4 rfl ?_
            refine J.iconst (v := 1) hx dL_law_228 (by decide) ?_
            refine J.iadd hx dL_law_229 ?_
            refine J.iald8 (κ := 39) hx rfl rfl rfl (x32.mv (jN_old (jbb_ext.mv (x23.mv (jbn_old (jbb_ext.mv (x9.mv (jbn_old b0)))))))).1 dL_law_230 fun v40 => ?_
            refine J.aload_n hx dL_law_231 rfl 0 rfl ?_
            refine J.iload hx dL_law_232 4 rfl ?_
            refine J.iconst (v := 2) hx dL_law_234 (by decide) ?_
            refine J.iadd hx dL_law_235 ?_
            refine J.iald8 (κ := 39) hx rfl rfl rfl (x32.mv (jN_old (jbb_ext.mv (x23.mv (jbn_old (jbb_ext.mv (x9.mv (jbn_old b0)))))))).1 dL_law_236 fun v42 => ?_
            refine J.aload_n hx dL_law_237 rfl 0 rfl ?_
            refine J.iload hx dL_law_238 4 rfl ?_
            refine J.iconst (v := 3) hx dL_law_240 (by decide) ?_
            refine J.iadd hx dL_law_241 ?_
            refine J.iald8 (κ := 39) hx rfl rfl rfl (x32.mv (jN_old (jbb_ext.mv (x23.mv (jbn_old (jbb_ext.mv (x9.mv (jbn_old b0)))))))).1 dL_law_242 fun v44 => ?_
            refine J.aload_n hx dL_law_243 rfl 0 rfl ?_
            refine J.iload hx dL_law_244 4 rfl ?_
            refine J.iconst (v := 4) hx dL_law_246 (by decide) ?_
            refine J.iadd hx dL_law_247 ?_
            refine J.iald8 (κ := 39) hx rfl rfl rfl (x32.mv (jN_old (jbb_ext.mv (x23.mv (jbn_old (jbb_ext.mv (x9.mv (jbn_old b0)))))))).1 dL_law_248 fun v46 => ?_
            refine J.aload_n hx dL_law_249 rfl 0 rfl ?_
            refine J.iload hx dL_law_250 4 rfl ?_
            refine J.iconst (v := 5) hx dL_law_252 (by decide) ?_
            refine J.iadd hx dL_law_253 ?_
            refine J.iald8 (κ := 39) hx rfl rfl rfl (x32.mv (jN_old (jbb_ext.mv (x23.mv (jbn_old (jbb_ext.mv (x9.mv (jbn_old b0)))))))).1 dL_law_254 fun v48 => ?_
            refine J.ite (fun h52 => ?_) (fun _ => J.nne)
            refine J.calli hx (fun r z1 z => j_callV (κ := 0) hx rfl rfl (x32.mv (jN_old (jbb_ext.mv (x23.mv (jbn_old (jbb_own (S := jSX1 B8) (x9.mvh jbn_alh).1 jSX1_o)))))).1 (mt_X1_feed (x32.mv (jN_old (jbb_ext.mv (x23.mv (jbn_old (jbb_own (S := jSX1 B8) (x9.mvh jbn_alh).1 jSX1_o)))))) z) (lw_V q149 q150 q151 q120 q152) hd_X1_feed rfl ⟨Nat.le_of_ble_eq_true rfl, Nat.le_of_ble_eq_true rfl⟩ (Nat.le_of_ble_eq_true rfl) dL_law_255) ⟨⟨rfl, rfl⟩, h52.1, h52.2⟩ fun v49 w50 e51 => ?_
            refine J.aload_n hx dL_law_258 rfl 2 rfl ?_
            refine J.aload_n hx dL_law_259 rfl 0 rfl ?_
            refine J.iload hx dL_law_260 4 rfl ?_
            refine J.iconst (v := 1) hx dL_law_262 (by decide) ?_
            refine J.iadd hx dL_law_263 ?_
            refine J.iald8 (κ := 39) hx rfl rfl rfl (x32.mv (jN_old (jbb_ext.mv (x23.mv (jbn_old (jbb_ext.mv (x9.mv (jbn_old b0)))))))).1 dL_law_264 fun v54 => ?_
            refine J.aload_n hx dL_law_265 rfl 0 rfl ?_
            refine J.iload hx dL_law_266 4 rfl ?_
            refine J.iconst (v := 2) hx dL_law_268 (by decide) ?_
            refine J.iadd hx dL_law_269 ?_
            refine J.iald8 (κ := 39) hx rfl rfl rfl (x32.mv (jN_old (jbb_ext.mv (x23.mv (jbn_old (jbb_ext.mv (x9.mv (jbn_old b0)))))))).1 dL_law_270 fun v56 => ?_
            refine J.aload_n hx dL_law_271 rfl 0 rfl ?_
            refine J.iload hx dL_law_272 4 rfl ?_
            refine J.iconst (v := 3) hx dL_law_274 (by decide) ?_
            refine J.iadd hx dL_law_275 ?_
            refine J.iald8 (κ := 39) hx rfl rfl rfl (x32.mv (jN_old (jbb_ext.mv (x23.mv (jbn_old (jbb_ext.mv (x9.mv (jbn_old b0)))))))).1 dL_law_276 fun v58 => ?_
            refine J.aload_n hx dL_law_277 rfl 0 rfl ?_
            refine J.iload hx dL_law_278 4 rfl ?_
            refine J.iconst (v := 4) hx dL_law_280 (by decide) ?_
            refine J.iadd hx dL_law_281 ?_
            refine J.iald8 (κ := 39) hx rfl rfl rfl (x32.mv (jN_old (jbb_ext.mv (x23.mv (jbn_old (jbb_ext.mv (x9.mv (jbn_old b0)))))))).1 dL_law_282 fun v60 => ?_
            refine J.aload_n hx dL_law_283 rfl 0 rfl ?_
            refine J.iload hx dL_law_284 4 rfl ?_
            refine J.iconst (v := 5) hx dL_law_286 (by decide) ?_
            refine J.iadd hx dL_law_287 ?_
            refine J.iald8 (κ := 39) hx rfl rfl rfl (x32.mv (jN_old (jbb_ext.mv (x23.mv (jbn_old (jbb_ext.mv (x9.mv (jbn_old b0)))))))).1 dL_law_288 fun v62 => ?_
            refine J.ite (fun h66 => ?_) (fun _ => J.nne)
            refine J.calli hx (fun r z1 z => j_callV (κ := 1) hx rfl rfl (x32.mv (jN_old (jbb_own (S := jSX9 B22) (x23.mvh jbn_alh).1 jSX9_o))).1 (mt_X9_feed (x32.mv (jN_old (jbb_own (S := jSX9 B22) (x23.mvh jbn_alh).1 jSX9_o))) z) (lw_V q1815 q1816 q1817 q129 q1818) hd_X9_feed rfl ⟨Nat.le_of_ble_eq_true rfl, Nat.le_of_ble_eq_true rfl⟩ (Nat.le_of_ble_eq_true rfl) dL_law_289) ⟨⟨rfl, rfl⟩, h66.1, h66.2⟩ fun v63 w64 e65 => ?_
            refine J.icmp_eq (tgt := 1445) hx dL_law_292 (by decide) ?_ ?_
            · exact J.sub [0, 1, 2, 3, 4] rfl (hK1445 c33 c34 B31 j_ext.rf w64)
            · refine J.iconst (v := 0) hx dL_law_295 (by decide) ?_
              refine J.ite (fun h67 => ?_) (fun _ => J.nne)
              exact J.retL hx harg hsz h67.1 h67.2 dL_law_296
          · refine J.ite (fun e1 => ?_) (fun n1 => ?_)
            · refine J.tsw (off := 257) (tgt := 297) hx dL_law_40 (by rw [e1]; decide) (by rw [e1]; decide) (by rw [e1]; rfl) (by decide) ?_
              refine J.aload_n hx dL_law_297 rfl 1 rfl ?_
              refine J.aload_n hx dL_law_298 rfl 0 rfl ?_
              refine J.iload hx dL_law_299 4 rfl ?_
              refine J.iconst (v := 1) hx dL_law_301 (by decide) ?_
              refine J.iadd hx dL_law_302 ?_
              refine J.iald8 (κ := 39) hx rfl rfl rfl (x32.mv (jN_old (jbb_ext.mv (x23.mv (jbn_old (jbb_ext.mv (x9.mv (jbn_old b0)))))))).1 dL_law_303 fun v69 => ?_
              refine J.ite (fun h73 => ?_) (fun _ => J.nne)
              refine J.calli hx (fun r z1 z => j_callV (κ := 0) hx rfl rfl (x32.mv (jN_old (jbb_ext.mv (x23.mv (jbn_old (jbb_own (S := jSX1 B8) (x9.mvh jbn_alh).1 jSX1_o)))))).1 (mt_X1_end (x32.mv (jN_old (jbb_ext.mv (x23.mv (jbn_old (jbb_own (S := jSX1 B8) (x9.mvh jbn_alh).1 jSX1_o)))))) z) (lw_V q161 q162 q163 q120 q164) hd_X1_end rfl ⟨Nat.le_of_ble_eq_true rfl, Nat.le_of_ble_eq_true rfl⟩ (Nat.le_of_ble_eq_true rfl) dL_law_304) ⟨⟨rfl, rfl⟩, h73.1, h73.2⟩ fun v70 w71 e72 => ?_
              refine J.aload_n hx dL_law_307 rfl 2 rfl ?_
              refine J.aload_n hx dL_law_308 rfl 0 rfl ?_
              refine J.iload hx dL_law_309 4 rfl ?_
              refine J.iconst (v := 1) hx dL_law_311 (by decide) ?_
              refine J.iadd hx dL_law_312 ?_
              refine J.iald8 (κ := 39) hx rfl rfl rfl (x32.mv (jN_old (jbb_ext.mv (x23.mv (jbn_old (jbb_ext.mv (x9.mv (jbn_old b0)))))))).1 dL_law_313 fun v75 => ?_
              refine J.ite (fun h79 => ?_) (fun _ => J.nne)
              refine J.calli hx (fun r z1 z => j_callV (κ := 1) hx rfl rfl (x32.mv (jN_old (jbb_own (S := jSX9 B22) (x23.mvh jbn_alh).1 jSX9_o))).1 (mt_X9_end (x32.mv (jN_old (jbb_own (S := jSX9 B22) (x23.mvh jbn_alh).1 jSX9_o))) z) (lw_V q1822 q1823 q1824 q129 q1825) hd_X9_end rfl ⟨Nat.le_of_ble_eq_true rfl, Nat.le_of_ble_eq_true rfl⟩ (Nat.le_of_ble_eq_true rfl) dL_law_314) ⟨⟨rfl, rfl⟩, h79.1, h79.2⟩ fun v76 w77 e78 => ?_
              refine J.icmp_eq (tgt := 1445) hx dL_law_317 (by decide) ?_ ?_
              · exact J.sub [0, 1, 2, 3, 4] rfl (hK1445 c33 c34 B31 j_ext.rf w77)
              · refine J.iconst (v := 0) hx dL_law_320 (by decide) ?_
                refine J.ite (fun h80 => ?_) (fun _ => J.nne)
                exact J.retL hx harg hsz h80.1 h80.2 dL_law_321
            · refine J.ite (fun e2 => ?_) (fun n2 => ?_)
              · refine J.tsw (off := 282) (tgt := 322) hx dL_law_40 (by rw [e2]; decide) (by rw [e2]; decide) (by rw [e2]; rfl) (by decide) ?_
                refine J.aload_n hx dL_law_322 rfl 1 rfl ?_
                refine J.aload_n hx dL_law_323 rfl 0 rfl ?_
                refine J.iload hx dL_law_324 4 rfl ?_
                refine J.iconst (v := 1) hx dL_law_326 (by decide) ?_
                refine J.iadd hx dL_law_327 ?_
                refine J.iald8 (κ := 39) hx rfl rfl rfl (x32.mv (jN_old (jbb_ext.mv (x23.mv (jbn_old (jbb_ext.mv (x9.mv (jbn_old b0)))))))).1 dL_law_328 fun v82 => ?_
                refine J.ite (fun h86 => ?_) (fun _ => J.nne)
                refine J.callAi hx (fun r z1 z => j_callA_of (j_runVW (κ := 0) hx rfl rfl (x32.mv (jN_old (jbb_ext.mv (x23.mv (jbn_old (jbb_own (S := jSX1 B8) (x9.mvh jbn_alh).1 jSX1_o)))))).1 (mt_X1_fault (x32.mv (jN_old (jbb_ext.mv (x23.mv (jbn_old (jbb_own (S := jSX1 B8) (x9.mvh jbn_alh).1 jSX1_o)))))) (hL.mv ((((((((j_ext.rf.tr (jbn_ext f0_0)).tr x9).tr jbb_ext).tr (jbn_ext (jbb_no (x10.no (jbn_noK f1_0 (by decide)) (by simp))))).tr x23).tr jbb_ext).tr (jN_ext (jbb_no (x24.no (jbn_noK (jbb_no (x10.no (jbn_noK f38_0 (by decide)) (by simp))) (by decide)) (by simp))))).tr x32)) z) (lw_VW q436 q437 q438 q120 q439) hd_X1_fault rfl ⟨Nat.le_of_ble_eq_true rfl, Nat.le_of_ble_eq_true rfl⟩ (Nat.le_of_ble_eq_true rfl) dL_law_329)) h86 fun v83 w84 B87 e85 x88 x89 => ?_
                refine J.cv (lv' := [(0, .ref (B87.1 39 i0)), (1, .ref (B87.1 0 0)), (2, .ref (B87.1 1 0)), (3, .ref (B87.1 38 0)), (4, .int v29)]) (st' := [.int v83]) (by first | rfl | (simp only [x88.ad (x32.mv (jN_old (jbb_ext.mv (x23.mv (jbn_old (jbb_ext.mv (x9.mv (jbn_old b0)))))))), x88.ad (x32.mv (jN_old (jbb_ext.mv (x23.mv (jbn_old (jbb_own (S := jSX1 B8) (x9.mvh jbn_alh).1 jSX1_o)))))), x88.ad (x32.mv (jN_old (jbb_own (S := jSX9 B22) (x23.mvh jbn_alh).1 jSX9_o))), x88.ad (x32.mv jN_al)]; done) | (simp only [x88.ad (x32.mv (jN_old (jbb_ext.mv (x23.mv (jbn_old (jbb_ext.mv (x9.mv (jbn_old b0)))))))), x88.ad (x32.mv (jN_old (jbb_ext.mv (x23.mv (jbn_old (jbb_own (S := jSX1 B8) (x9.mvh jbn_alh).1 jSX1_o)))))), x88.ad (x32.mv (jN_old (jbb_own (S := jSX9 B22) (x23.mvh jbn_alh).1 jSX9_o))), x88.ad (x32.mv jN_al)]; rfl)) (by first | rfl | (simp only [x88.ad (x32.mv (jN_old (jbb_ext.mv (x23.mv (jbn_old (jbb_ext.mv (x9.mv (jbn_old b0)))))))), x88.ad (x32.mv (jN_old (jbb_ext.mv (x23.mv (jbn_old (jbb_own (S := jSX1 B8) (x9.mvh jbn_alh).1 jSX1_o)))))), x88.ad (x32.mv (jN_old (jbb_own (S := jSX9 B22) (x23.mvh jbn_alh).1 jSX9_o))), x88.ad (x32.mv jN_al)]; done) | (simp only [x88.ad (x32.mv (jN_old (jbb_ext.mv (x23.mv (jbn_old (jbb_ext.mv (x9.mv (jbn_old b0)))))))), x88.ad (x32.mv (jN_old (jbb_ext.mv (x23.mv (jbn_old (jbb_own (S := jSX1 B8) (x9.mvh jbn_alh).1 jSX1_o)))))), x88.ad (x32.mv (jN_old (jbb_own (S := jSX9 B22) (x23.mvh jbn_alh).1 jSX9_o))), x88.ad (x32.mv jN_al)]; rfl)) ?_
                refine J.aload_n hx dL_law_332 rfl 2 rfl ?_
                refine J.aload_n hx dL_law_333 rfl 0 rfl ?_
                refine J.iload hx dL_law_334 4 rfl ?_
                refine J.iconst (v := 1) hx dL_law_336 (by decide) ?_
                refine J.iadd hx dL_law_337 ?_
                refine J.iald8 (κ := 39) hx rfl rfl rfl (x88.mv (x32.mv (jN_old (jbb_ext.mv (x23.mv (jbn_old (jbb_ext.mv (x9.mv (jbn_old b0))))))))).1 dL_law_338 fun v91 => ?_
                refine J.ite (fun h95 => ?_) (fun _ => J.nne)
                refine J.calli hx (fun r z1 z => j_callV (κ := 1) hx rfl rfl (x88.mv (x32.mv (jN_old (jbb_own (S := jSX9 B22) (x23.mvh jbn_alh).1 jSX9_o)))).1 (mt_X9_fault (x88.mv (x32.mv (jN_old (jbb_own (S := jSX9 B22) (x23.mvh jbn_alh).1 jSX9_o)))) z) (lw_V q1829 q1830 q1831 q129 q1832) hd_X9_fault rfl ⟨Nat.le_of_ble_eq_true rfl, Nat.le_of_ble_eq_true rfl⟩ (Nat.le_of_ble_eq_true rfl) dL_law_339) ⟨⟨rfl, rfl⟩, h95.1, h95.2⟩ fun v92 w93 e94 => ?_
                refine J.icmp_eq (tgt := 1445) hx dL_law_342 (by decide) ?_ ?_
                · exact J.sub [0, 1, 2, 3, 4] rfl (hK1445 (c33 + 810) (c34 + 192400) B87 x88 w93)
                · refine J.iconst (v := 0) hx dL_law_345 (by decide) ?_
                  refine J.ite (fun h96 => ?_) (fun _ => J.nne)
                  exact J.retL hx harg hsz h96.1 h96.2 dL_law_346
              · refine J.ite (fun e3 => ?_) (fun n3 => ?_)
                · refine J.tsw (off := 307) (tgt := 347) hx dL_law_40 (by rw [e3]; decide) (by rw [e3]; decide) (by rw [e3]; rfl) (by decide) ?_
                  refine J.aload_n hx dL_law_347 rfl 1 rfl ?_
                  refine J.aload_n hx dL_law_348 rfl 0 rfl ?_
                  refine J.iload hx dL_law_349 4 rfl ?_
                  refine J.iconst (v := 1) hx dL_law_351 (by decide) ?_
                  refine J.iadd hx dL_law_352 ?_
                  refine J.iald8 (κ := 39) hx rfl rfl rfl (x32.mv (jN_old (jbb_ext.mv (x23.mv (jbn_old (jbb_ext.mv (x9.mv (jbn_old b0)))))))).1 dL_law_353 fun v98 => ?_
                  refine J.ite (fun h102 => ?_) (fun _ => J.nne)
                  refine J.callAi hx (fun r z1 z => j_callA_of (j_runV (κ := 0) hx rfl rfl (x32.mv (jN_old (jbb_ext.mv (x23.mv (jbn_old (jbb_own (S := jSX1 B8) (x9.mvh jbn_alh).1 jSX1_o)))))).1 (mt_X1_text (x32.mv (jN_old (jbb_ext.mv (x23.mv (jbn_old (jbb_own (S := jSX1 B8) (x9.mvh jbn_alh).1 jSX1_o)))))) (hL.mv ((((((((j_ext.rf.tr (jbn_ext f0_0)).tr x9).tr jbb_ext).tr (jbn_ext (jbb_no (x10.no (jbn_noK f1_0 (by decide)) (by simp))))).tr x23).tr jbb_ext).tr (jN_ext (jbb_no (x24.no (jbn_noK (jbb_no (x10.no (jbn_noK f38_0 (by decide)) (by simp))) (by decide)) (by simp))))).tr x32)) z) (lw_V q945 q946 q947 q120 q948) hd_X1_text rfl ⟨Nat.le_of_ble_eq_true rfl, Nat.le_of_ble_eq_true rfl⟩ (Nat.le_of_ble_eq_true rfl) dL_law_354)) h102 fun v99 w100 B103 e101 x104 x105 => ?_
                  refine J.cv (lv' := [(0, .ref (B103.1 39 i0)), (1, .ref (B103.1 0 0)), (2, .ref (B103.1 1 0)), (3, .ref (B103.1 38 0)), (4, .int v29)]) (st' := [.int v99]) (by first | rfl | (simp only [x104.ad (x32.mv (jN_old (jbb_ext.mv (x23.mv (jbn_old (jbb_ext.mv (x9.mv (jbn_old b0)))))))), x104.ad (x32.mv (jN_old (jbb_ext.mv (x23.mv (jbn_old (jbb_own (S := jSX1 B8) (x9.mvh jbn_alh).1 jSX1_o)))))), x104.ad (x32.mv (jN_old (jbb_own (S := jSX9 B22) (x23.mvh jbn_alh).1 jSX9_o))), x104.ad (x32.mv jN_al)]; done) | (simp only [x104.ad (x32.mv (jN_old (jbb_ext.mv (x23.mv (jbn_old (jbb_ext.mv (x9.mv (jbn_old b0)))))))), x104.ad (x32.mv (jN_old (jbb_ext.mv (x23.mv (jbn_old (jbb_own (S := jSX1 B8) (x9.mvh jbn_alh).1 jSX1_o)))))), x104.ad (x32.mv (jN_old (jbb_own (S := jSX9 B22) (x23.mvh jbn_alh).1 jSX9_o))), x104.ad (x32.mv jN_al)]; rfl)) (by first | rfl | (simp only [x104.ad (x32.mv (jN_old (jbb_ext.mv (x23.mv (jbn_old (jbb_ext.mv (x9.mv (jbn_old b0)))))))), x104.ad (x32.mv (jN_old (jbb_ext.mv (x23.mv (jbn_old (jbb_own (S := jSX1 B8) (x9.mvh jbn_alh).1 jSX1_o)))))), x104.ad (x32.mv (jN_old (jbb_own (S := jSX9 B22) (x23.mvh jbn_alh).1 jSX9_o))), x104.ad (x32.mv jN_al)]; done) | (simp only [x104.ad (x32.mv (jN_old (jbb_ext.mv (x23.mv (jbn_old (jbb_ext.mv (x9.mv (jbn_old b0)))))))), x104.ad (x32.mv (jN_old (jbb_ext.mv (x23.mv (jbn_old (jbb_own (S := jSX1 B8) (x9.mvh jbn_alh).1 jSX1_o)))))), x104.ad (x32.mv (jN_old (jbb_own (S := jSX9 B22) (x23.mvh jbn_alh).1 jSX9_o))), x104.ad (x32.mv jN_al)]; rfl)) ?_
                  refine J.aload_n hx dL_law_357 rfl 2 rfl ?_
                  refine J.aload_n hx dL_law_358 rfl 0 rfl ?_
                  refine J.iload hx dL_law_359 4 rfl ?_
                  refine J.iconst (v := 1) hx dL_law_361 (by decide) ?_
                  refine J.iadd hx dL_law_362 ?_
                  refine J.iald8 (κ := 39) hx rfl rfl rfl (x104.mv (x32.mv (jN_old (jbb_ext.mv (x23.mv (jbn_old (jbb_ext.mv (x9.mv (jbn_old b0))))))))).1 dL_law_363 fun v107 => ?_
                  refine J.ite (fun h111 => ?_) (fun _ => J.nne)
                  refine J.calli hx (fun r z1 z => j_callV (κ := 1) hx rfl rfl (x104.mv (x32.mv (jN_old (jbb_own (S := jSX9 B22) (x23.mvh jbn_alh).1 jSX9_o)))).1 (mt_X9_text (x104.mv (x32.mv (jN_old (jbb_own (S := jSX9 B22) (x23.mvh jbn_alh).1 jSX9_o)))) z) (lw_V q1933 q1934 q1935 q129 q1936) hd_X9_text rfl ⟨Nat.le_of_ble_eq_true rfl, Nat.le_of_ble_eq_true rfl⟩ (Nat.le_of_ble_eq_true rfl) dL_law_364) ⟨⟨rfl, rfl⟩, h111.1, h111.2⟩ fun v108 w109 e110 => ?_
                  refine J.icmp_eq (tgt := 1445) hx dL_law_367 (by decide) ?_ ?_
                  · exact J.sub [0, 1, 2, 3, 4] rfl (hK1445 (c33 + 810) (c34 + 192400) B103 x104 w109)
                  · refine J.iconst (v := 0) hx dL_law_370 (by decide) ?_
                    refine J.ite (fun h112 => ?_) (fun _ => J.nne)
                    exact J.retL hx harg hsz h112.1 h112.2 dL_law_371
                · refine J.ite (fun e4 => ?_) (fun n4 => ?_)
                  · refine J.tsw (off := 332) (tgt := 372) hx dL_law_40 (by rw [e4]; decide) (by rw [e4]; decide) (by rw [e4]; rfl) (by decide) ?_
                    refine J.aload_n hx dL_law_372 rfl 1 rfl ?_
                    refine J.aload_n hx dL_law_373 rfl 0 rfl ?_
                    refine J.iload hx dL_law_374 4 rfl ?_
                    refine J.iconst (v := 1) hx dL_law_376 (by decide) ?_
                    refine J.iadd hx dL_law_377 ?_
                    refine J.iald8 (κ := 39) hx rfl rfl rfl (x32.mv (jN_old (jbb_ext.mv (x23.mv (jbn_old (jbb_ext.mv (x9.mv (jbn_old b0)))))))).1 dL_law_378 fun v114 => ?_
                    refine J.ite (fun h118 => ?_) (fun _ => J.nne)
                    refine J.calli hx (fun r z1 z => j_callV (κ := 0) hx rfl rfl (x32.mv (jN_old (jbb_ext.mv (x23.mv (jbn_old (jbb_own (S := jSX1 B8) (x9.mvh jbn_alh).1 jSX1_o)))))).1 (mt_X1_rule (x32.mv (jN_old (jbb_ext.mv (x23.mv (jbn_old (jbb_own (S := jSX1 B8) (x9.mvh jbn_alh).1 jSX1_o)))))) z) (lw_V q1220 q1221 q1222 q120 q1223) hd_X1_rule rfl ⟨Nat.le_of_ble_eq_true rfl, Nat.le_of_ble_eq_true rfl⟩ (Nat.le_of_ble_eq_true rfl) dL_law_379) ⟨⟨rfl, rfl⟩, h118.1, h118.2⟩ fun v115 w116 e117 => ?_
                    refine J.aload_n hx dL_law_382 rfl 2 rfl ?_
                    refine J.aload_n hx dL_law_383 rfl 0 rfl ?_
                    refine J.iload hx dL_law_384 4 rfl ?_
                    refine J.iconst (v := 1) hx dL_law_386 (by decide) ?_
                    refine J.iadd hx dL_law_387 ?_
                    refine J.iald8 (κ := 39) hx rfl rfl rfl (x32.mv (jN_old (jbb_ext.mv (x23.mv (jbn_old (jbb_ext.mv (x9.mv (jbn_old b0)))))))).1 dL_law_388 fun v120 => ?_
                    refine J.ite (fun h124 => ?_) (fun _ => J.nne)
                    refine J.calli hx (fun r z1 z => j_callV (κ := 1) hx rfl rfl (x32.mv (jN_old (jbb_own (S := jSX9 B22) (x23.mvh jbn_alh).1 jSX9_o))).1 (mt_X9_rule (x32.mv (jN_old (jbb_own (S := jSX9 B22) (x23.mvh jbn_alh).1 jSX9_o))) z) (lw_V q2139 q2140 q2141 q129 q2142) hd_X9_rule rfl ⟨Nat.le_of_ble_eq_true rfl, Nat.le_of_ble_eq_true rfl⟩ (Nat.le_of_ble_eq_true rfl) dL_law_389) ⟨⟨rfl, rfl⟩, h124.1, h124.2⟩ fun v121 w122 e123 => ?_
                    refine J.icmp_eq (tgt := 1445) hx dL_law_392 (by decide) ?_ ?_
                    · exact J.sub [0, 1, 2, 3, 4] rfl (hK1445 c33 c34 B31 j_ext.rf w122)
                    · refine J.iconst (v := 0) hx dL_law_395 (by decide) ?_
                      refine J.ite (fun h125 => ?_) (fun _ => J.nne)
                      exact J.retL hx harg hsz h125.1 h125.2 dL_law_396
                  · refine J.ite (fun e5 => ?_) (fun n5 => ?_)
                    · refine J.tsw (off := 357) (tgt := 397) hx dL_law_40 (by rw [e5]; decide) (by rw [e5]; decide) (by rw [e5]; rfl) (by decide) ?_
                      refine J.aload_n hx dL_law_397 rfl 1 rfl ?_
                      refine J.aload_n hx dL_law_398 rfl 0 rfl ?_
                      refine J.iload hx dL_law_399 4 rfl ?_
                      refine J.iconst (v := 1) hx dL_law_401 (by decide) ?_
                      refine J.iadd hx dL_law_402 ?_
                      refine J.iald8 (κ := 39) hx rfl rfl rfl (x32.mv (jN_old (jbb_ext.mv (x23.mv (jbn_old (jbb_ext.mv (x9.mv (jbn_old b0)))))))).1 dL_law_403 fun v127 => ?_
                      refine J.ite (fun h131 => ?_) (fun _ => J.nne)
                      refine J.calli hx (fun r z1 z => j_callV (κ := 0) hx rfl rfl (x32.mv (jN_old (jbb_ext.mv (x23.mv (jbn_old (jbb_own (S := jSX1 B8) (x9.mvh jbn_alh).1 jSX1_o)))))).1 (mt_X1_sample (x32.mv (jN_old (jbb_ext.mv (x23.mv (jbn_old (jbb_own (S := jSX1 B8) (x9.mvh jbn_alh).1 jSX1_o)))))) z) (lw_V q1234 q1235 q1236 q120 q1237) hd_X1_sample rfl ⟨Nat.le_of_ble_eq_true rfl, Nat.le_of_ble_eq_true rfl⟩ (Nat.le_of_ble_eq_true rfl) dL_law_404) ⟨⟨rfl, rfl⟩, h131.1, h131.2⟩ fun v128 w129 e130 => ?_
                      refine J.aload_n hx dL_law_407 rfl 2 rfl ?_
                      refine J.aload_n hx dL_law_408 rfl 0 rfl ?_
                      refine J.iload hx dL_law_409 4 rfl ?_
                      refine J.iconst (v := 1) hx dL_law_411 (by decide) ?_
                      refine J.iadd hx dL_law_412 ?_
                      refine J.iald8 (κ := 39) hx rfl rfl rfl (x32.mv (jN_old (jbb_ext.mv (x23.mv (jbn_old (jbb_ext.mv (x9.mv (jbn_old b0)))))))).1 dL_law_413 fun v133 => ?_
                      refine J.ite (fun h137 => ?_) (fun _ => J.nne)
                      refine J.calli hx (fun r z1 z => j_callV (κ := 1) hx rfl rfl (x32.mv (jN_old (jbb_own (S := jSX9 B22) (x23.mvh jbn_alh).1 jSX9_o))).1 (mt_X9_sample (x32.mv (jN_old (jbb_own (S := jSX9 B22) (x23.mvh jbn_alh).1 jSX9_o))) z) (lw_V q2147 q2148 q2149 q129 q2150) hd_X9_sample rfl ⟨Nat.le_of_ble_eq_true rfl, Nat.le_of_ble_eq_true rfl⟩ (Nat.le_of_ble_eq_true rfl) dL_law_414) ⟨⟨rfl, rfl⟩, h137.1, h137.2⟩ fun v134 w135 e136 => ?_
                      refine J.icmp_eq (tgt := 1445) hx dL_law_417 (by decide) ?_ ?_
                      · exact J.sub [0, 1, 2, 3, 4] rfl (hK1445 c33 c34 B31 j_ext.rf w135)
                      · refine J.iconst (v := 0) hx dL_law_420 (by decide) ?_
                        refine J.ite (fun h138 => ?_) (fun _ => J.nne)
                        exact J.retL hx harg hsz h138.1 h138.2 dL_law_421
                    · refine J.ite (fun e6 => ?_) (fun n6 => ?_)
                      · refine J.tsw (off := 382) (tgt := 422) hx dL_law_40 (by rw [e6]; decide) (by rw [e6]; decide) (by rw [e6]; rfl) (by decide) ?_
                        refine J.aload_n hx dL_law_422 rfl 1 rfl ?_
                        refine J.aload_n hx dL_law_423 rfl 0 rfl ?_
                        refine J.iload hx dL_law_424 4 rfl ?_
                        refine J.iconst (v := 1) hx dL_law_426 (by decide) ?_
                        refine J.iadd hx dL_law_427 ?_
                        refine J.iald8 (κ := 39) hx rfl rfl rfl (x32.mv (jN_old (jbb_ext.mv (x23.mv (jbn_old (jbb_ext.mv (x9.mv (jbn_old b0)))))))).1 dL_law_428 fun v140 => ?_
                        refine J.aload_n hx dL_law_429 rfl 0 rfl ?_
                        refine J.iload hx dL_law_430 4 rfl ?_
                        refine J.iconst (v := 2) hx dL_law_432 (by decide) ?_
                        refine J.iadd hx dL_law_433 ?_
                        refine J.iald8 (κ := 39) hx rfl rfl rfl (x32.mv (jN_old (jbb_ext.mv (x23.mv (jbn_old (jbb_ext.mv (x9.mv (jbn_old b0)))))))).1 dL_law_434 fun v142 => ?_
                        refine J.aload_n hx dL_law_435 rfl 3 rfl ?_
                        refine J.ite (fun h146 => ?_) (fun _ => J.nne)
                        refine J.callAi hx (fun r z1 z => j_callA_of (j_runSW hx (mt_X0_peak (x32.mv (jN_old (jbb_ext.mv (x23.mv (jbn_old (jbb_own (S := jSX1 B8) (x9.mvh jbn_alh).1 jSX1_o)))))) (x32.mv jN_al) z) (lw_SW q1611 q1612 q119 q1613) hd_X0_peak.2 rfl ⟨Nat.le_of_ble_eq_true rfl, Nat.le_of_ble_eq_true rfl⟩ (Nat.le_of_ble_eq_true rfl) dL_law_436)) h146 fun v143 w144 B147 e145 x148 x149 => ?_
                        refine J.cv (lv' := [(0, .ref (B147.1 39 i0)), (1, .ref (B147.1 0 0)), (2, .ref (B147.1 1 0)), (3, .ref (B147.1 38 0)), (4, .int v29)]) (st' := [.int v143]) (by first | rfl | (simp only [x148.ad (x32.mv (jN_old (jbb_ext.mv (x23.mv (jbn_old (jbb_ext.mv (x9.mv (jbn_old b0)))))))), x148.ad (x32.mv (jN_old (jbb_ext.mv (x23.mv (jbn_old (jbb_own (S := jSX1 B8) (x9.mvh jbn_alh).1 jSX1_o)))))), x148.ad (x32.mv (jN_old (jbb_own (S := jSX9 B22) (x23.mvh jbn_alh).1 jSX9_o))), x148.ad (x32.mv jN_al)]; done) | (simp only [x148.ad (x32.mv (jN_old (jbb_ext.mv (x23.mv (jbn_old (jbb_ext.mv (x9.mv (jbn_old b0)))))))), x148.ad (x32.mv (jN_old (jbb_ext.mv (x23.mv (jbn_old (jbb_own (S := jSX1 B8) (x9.mvh jbn_alh).1 jSX1_o)))))), x148.ad (x32.mv (jN_old (jbb_own (S := jSX9 B22) (x23.mvh jbn_alh).1 jSX9_o))), x148.ad (x32.mv jN_al)]; rfl)) (by first | rfl | (simp only [x148.ad (x32.mv (jN_old (jbb_ext.mv (x23.mv (jbn_old (jbb_ext.mv (x9.mv (jbn_old b0)))))))), x148.ad (x32.mv (jN_old (jbb_ext.mv (x23.mv (jbn_old (jbb_own (S := jSX1 B8) (x9.mvh jbn_alh).1 jSX1_o)))))), x148.ad (x32.mv (jN_old (jbb_own (S := jSX9 B22) (x23.mvh jbn_alh).1 jSX9_o))), x148.ad (x32.mv jN_al)]; done) | (simp only [x148.ad (x32.mv (jN_old (jbb_ext.mv (x23.mv (jbn_old (jbb_ext.mv (x9.mv (jbn_old b0)))))))), x148.ad (x32.mv (jN_old (jbb_ext.mv (x23.mv (jbn_old (jbb_own (S := jSX1 B8) (x9.mvh jbn_alh).1 jSX1_o)))))), x148.ad (x32.mv (jN_old (jbb_own (S := jSX9 B22) (x23.mvh jbn_alh).1 jSX9_o))), x148.ad (x32.mv jN_al)]; rfl)) ?_
                        refine J.istore (lv' := [(5, .int v143), (0, .ref (B147.1 39 i0)), (1, .ref (B147.1 0 0)), (2, .ref (B147.1 1 0)), (3, .ref (B147.1 38 0)), (4, .int v29)]) hx dL_law_439 (by decide) rfl ?_
                        refine J.aload_n hx dL_law_441 rfl 3 rfl ?_
                        refine J.aload_n hx dL_law_442 rfl 1 rfl ?_
                        refine J.iload hx dL_law_443 5 rfl ?_
                        refine J.iconst (v := 1) hx dL_law_445 (by decide) ?_
                        refine J.iadd hx dL_law_446 ?_
                        refine J.iald8 (κ := 39) hx rfl rfl rfl (x148.mv (x32.mv (jN_old (jbb_ext.mv (x23.mv (jbn_old (jbb_ext.mv (x9.mv (jbn_old b0))))))))).1 dL_law_447 fun v151 => ?_
                        refine J.aload_n hx dL_law_448 rfl 1 rfl ?_
                        refine J.iload hx dL_law_449 5 rfl ?_
                        refine J.iconst (v := 2) hx dL_law_451 (by decide) ?_
                        refine J.iadd hx dL_law_452 ?_
                        refine J.iald8 (κ := 39) hx rfl rfl rfl (x148.mv (x32.mv (jN_old (jbb_ext.mv (x23.mv (jbn_old (jbb_ext.mv (x9.mv (jbn_old b0))))))))).1 dL_law_453 fun v153 => ?_
                        refine J.ite (fun h157 => ?_) (fun _ => J.nne)
                        refine J.calli hx (fun r z1 z => j_callV (κ := 1) hx rfl rfl (x148.mv (x32.mv (jN_old (jbb_own (S := jSX9 B22) (x23.mvh jbn_alh).1 jSX9_o)))).1 (mt_X9_peak (x148.mv (x32.mv (jN_old (jbb_own (S := jSX9 B22) (x23.mvh jbn_alh).1 jSX9_o)))) z) (lw_V q2151 q2152 q2153 q129 q2154) hd_X9_peak rfl ⟨Nat.le_of_ble_eq_true rfl, Nat.le_of_ble_eq_true rfl⟩ (Nat.le_of_ble_eq_true rfl) dL_law_454) ⟨⟨rfl, rfl⟩, h157.1, h157.2⟩ fun v154 w155 e156 => ?_
                        refine J.istore (lv' := [(6, .int v154), (5, .int v143), (0, .ref (B147.1 39 i0)), (1, .ref (B147.1 0 0)), (2, .ref (B147.1 1 0)), (3, .ref (B147.1 38 0)), (4, .int v29)]) hx dL_law_457 (by decide) rfl ?_
                        refine J.aload_n hx dL_law_459 rfl 4 rfl ?_
                        refine J.ite (fun h161 => ?_) (fun _ => J.nne)
                        refine J.calli hx (fun r z1 z => j_callV (κ := 1) hx rfl rfl (x148.mv (x32.mv (jN_old (jbb_own (S := jSX9 B22) (x23.mvh jbn_alh).1 jSX9_o)))).1 (mt_X9_thrown (x148.mv (x32.mv (jN_old (jbb_own (S := jSX9 B22) (x23.mvh jbn_alh).1 jSX9_o)))) z) (lw_V q1811 q1812 q1813 q129 q1814) hd_X9_thrown rfl ⟨Nat.le_of_ble_eq_true rfl, Nat.le_of_ble_eq_true rfl⟩ (Nat.le_of_ble_eq_true rfl) dL_law_460) ⟨⟨rfl, rfl⟩, h161.1, h161.2⟩ fun v158 w159 e160 => ?_
                        refine J.iload hx dL_law_463 1 rfl ?_
                        refine J.icmp_eq (tgt := 470) hx dL_law_465 (by decide) ?_ ?_
                        · refine J.iload hx dL_law_470 1 rfl ?_
                          refine J.fn (fun (K487 : Nat → Nat → j_St → Option (Int32 × j_St)) => ∀  (c168 : Nat) (c169 : Nat) (B166 : j_B) (x167 : j_ext B147 B166) (w165 : j_St), J g x 7 B166 (j_QL x) c168 c169 (K487 c168 c169 w165) 487 [(0, .ref (B166.1 39 i0)), (1, .ref (B166.1 0 0)), (2, .ref (B166.1 1 0)), (3, .ref (B166.1 38 0)), (4, .int v29)] [] w165) ?_ ?_
                          · intro c168 c169 B166 x167 w165
                            refine J.goto (tgt := 1445) hx dL_law_487 (by decide) ?_
                            exact J.sub [0, 1, 2, 3, 4] rfl (hK1445 c168 c169 B166 (x148.tr x167) w165)
                          · intro K487 hK487
                            refine J.if_ne (tgt := 487) hx dL_law_472 (by decide) ?_ ?_
                            · refine J.aload_n hx dL_law_475 rfl 5 rfl ?_
                              refine J.iconst (v := 0) hx dL_law_476 (by decide) ?_
                              refine J.lald (κ := 38) hx rfl rfl (x148.mv (x32.mv jN_al)).1 dL_law_477 fun v163 => ?_
                              refine J.iload hx dL_law_478 0 rfl ?_
                              refine J.i2l hx dL_law_480 ?_
                              refine J.lcmp hx dL_law_481 ?_
                              refine J.if_eq (tgt := 487) hx dL_law_482 (by decide) ?_ ?_
                              · exact J.sub [2, 3, 4, 5, 6] rfl (hK487 (c33 + 1) (c34 + 6) B147 j_ext.rf w159)
                              · refine J.iconst (v := 0) hx dL_law_485 (by decide) ?_
                                refine J.ite (fun h164 => ?_) (fun _ => J.nne)
                                exact J.retL hx harg hsz h164.1 h164.2 dL_law_486
                            · exact J.sub [2, 3, 4, 5, 6] rfl (hK487 (c33 + 1) (c34 + 6) B147 j_ext.rf w159)
                        · refine J.iconst (v := 0) hx dL_law_468 (by decide) ?_
                          refine J.ite (fun h170 => ?_) (fun _ => J.nne)
                          exact J.retL hx harg hsz h170.1 h170.2 dL_law_469
                      · refine J.ite (fun e7 => ?_) (fun n7 => ?_)
                        · refine J.tsw (off := 450) (tgt := 490) hx dL_law_40 (by rw [e7]; decide) (by rw [e7]; decide) (by rw [e7]; rfl) (by decide) ?_
                          refine J.aload_n hx dL_law_490 rfl 1 rfl ?_
                          refine J.aload_n hx dL_law_491 rfl 0 rfl ?_
                          refine J.iload hx dL_law_492 4 rfl ?_
                          refine J.iconst (v := 1) hx dL_law_494 (by decide) ?_
                          refine J.iadd hx dL_law_495 ?_
                          refine J.iald8 (κ := 39) hx rfl rfl rfl (x32.mv (jN_old (jbb_ext.mv (x23.mv (jbn_old (jbb_ext.mv (x9.mv (jbn_old b0)))))))).1 dL_law_496 fun v172 => ?_
                          refine J.aload_n hx dL_law_497 rfl 0 rfl ?_
                          refine J.iload hx dL_law_498 4 rfl ?_
                          refine J.iconst (v := 2) hx dL_law_500 (by decide) ?_
                          refine J.iadd hx dL_law_501 ?_
                          refine J.iald8 (κ := 39) hx rfl rfl rfl (x32.mv (jN_old (jbb_ext.mv (x23.mv (jbn_old (jbb_ext.mv (x9.mv (jbn_old b0)))))))).1 dL_law_502 fun v174 => ?_
                          refine J.ite (fun h178 => ?_) (fun _ => J.nne)
                          refine J.calli hx (fun r z1 z => j_callV (κ := 0) hx rfl rfl (x32.mv (jN_old (jbb_ext.mv (x23.mv (jbn_old (jbb_own (S := jSX1 B8) (x9.mvh jbn_alh).1 jSX1_o)))))).1 (mt_X1_basin (x32.mv (jN_old (jbb_ext.mv (x23.mv (jbn_old (jbb_own (S := jSX1 B8) (x9.mvh jbn_alh).1 jSX1_o)))))) z) (lw_V q1239 q1240 q1241 q120 q1242) hd_X1_basin rfl ⟨Nat.le_of_ble_eq_true rfl, Nat.le_of_ble_eq_true rfl⟩ (Nat.le_of_ble_eq_true rfl) dL_law_503) ⟨⟨rfl, rfl⟩, h178.1, h178.2⟩ fun v175 w176 e177 => ?_
                          refine J.aload_n hx dL_law_506 rfl 2 rfl ?_
                          refine J.aload_n hx dL_law_507 rfl 0 rfl ?_
                          refine J.iload hx dL_law_508 4 rfl ?_
                          refine J.iconst (v := 1) hx dL_law_510 (by decide) ?_
                          refine J.iadd hx dL_law_511 ?_
                          refine J.iald8 (κ := 39) hx rfl rfl rfl (x32.mv (jN_old (jbb_ext.mv (x23.mv (jbn_old (jbb_ext.mv (x9.mv (jbn_old b0)))))))).1 dL_law_512 fun v180 => ?_
                          refine J.aload_n hx dL_law_513 rfl 0 rfl ?_
                          refine J.iload hx dL_law_514 4 rfl ?_
                          refine J.iconst (v := 2) hx dL_law_516 (by decide) ?_
                          refine J.iadd hx dL_law_517 ?_
                          refine J.iald8 (κ := 39) hx rfl rfl rfl (x32.mv (jN_old (jbb_ext.mv (x23.mv (jbn_old (jbb_ext.mv (x9.mv (jbn_old b0)))))))).1 dL_law_518 fun v182 => ?_
                          refine J.ite (fun h186 => ?_) (fun _ => J.nne)
                          refine J.calli hx (fun r z1 z => j_callV (κ := 1) hx rfl rfl (x32.mv (jN_old (jbb_own (S := jSX9 B22) (x23.mvh jbn_alh).1 jSX9_o))).1 (mt_X9_basin (x32.mv (jN_old (jbb_own (S := jSX9 B22) (x23.mvh jbn_alh).1 jSX9_o))) z) (lw_V q2175 q2176 q2177 q129 q2178) hd_X9_basin rfl ⟨Nat.le_of_ble_eq_true rfl, Nat.le_of_ble_eq_true rfl⟩ (Nat.le_of_ble_eq_true rfl) dL_law_519) ⟨⟨rfl, rfl⟩, h186.1, h186.2⟩ fun v183 w184 e185 => ?_
                          refine J.icmp_eq (tgt := 1445) hx dL_law_522 (by decide) ?_ ?_
                          · exact J.sub [0, 1, 2, 3, 4] rfl (hK1445 c33 c34 B31 j_ext.rf w184)
                          · refine J.iconst (v := 0) hx dL_law_525 (by decide) ?_
                            refine J.ite (fun h187 => ?_) (fun _ => J.nne)
                            exact J.retL hx harg hsz h187.1 h187.2 dL_law_526
                        · refine J.ite (fun e8 => ?_) (fun n8 => ?_)
                          · refine J.tsw (off := 487) (tgt := 527) hx dL_law_40 (by rw [e8]; decide) (by rw [e8]; decide) (by rw [e8]; rfl) (by decide) ?_
                            refine J.aload_n hx dL_law_527 rfl 1 rfl ?_
                            refine J.aload_n hx dL_law_528 rfl 0 rfl ?_
                            refine J.iload hx dL_law_529 4 rfl ?_
                            refine J.iconst (v := 1) hx dL_law_531 (by decide) ?_
                            refine J.iadd hx dL_law_532 ?_
                            refine J.iald8 (κ := 39) hx rfl rfl rfl (x32.mv (jN_old (jbb_ext.mv (x23.mv (jbn_old (jbb_ext.mv (x9.mv (jbn_old b0)))))))).1 dL_law_533 fun v189 => ?_
                            refine J.aload_n hx dL_law_534 rfl 0 rfl ?_
                            refine J.iload hx dL_law_535 4 rfl ?_
                            refine J.iconst (v := 2) hx dL_law_537 (by decide) ?_
                            refine J.iadd hx dL_law_538 ?_
                            refine J.iald8 (κ := 39) hx rfl rfl rfl (x32.mv (jN_old (jbb_ext.mv (x23.mv (jbn_old (jbb_ext.mv (x9.mv (jbn_old b0)))))))).1 dL_law_539 fun v191 => ?_
                            refine J.ite (fun h195 => ?_) (fun _ => J.nne)
                            refine J.calli hx (fun r z1 z => j_callV (κ := 0) hx rfl rfl (x32.mv (jN_old (jbb_ext.mv (x23.mv (jbn_old (jbb_own (S := jSX1 B8) (x9.mvh jbn_alh).1 jSX1_o)))))).1 (mt_X1_at (x32.mv (jN_old (jbb_ext.mv (x23.mv (jbn_old (jbb_own (S := jSX1 B8) (x9.mvh jbn_alh).1 jSX1_o)))))) z) (lw_V q1283 q1284 q1285 q120 q1286) hd_X1_at rfl ⟨Nat.le_of_ble_eq_true rfl, Nat.le_of_ble_eq_true rfl⟩ (Nat.le_of_ble_eq_true rfl) dL_law_540) ⟨⟨rfl, rfl⟩, h195.1, h195.2⟩ fun v192 w193 e194 => ?_
                            refine J.aload_n hx dL_law_543 rfl 2 rfl ?_
                            refine J.aload_n hx dL_law_544 rfl 0 rfl ?_
                            refine J.iload hx dL_law_545 4 rfl ?_
                            refine J.iconst (v := 1) hx dL_law_547 (by decide) ?_
                            refine J.iadd hx dL_law_548 ?_
                            refine J.iald8 (κ := 39) hx rfl rfl rfl (x32.mv (jN_old (jbb_ext.mv (x23.mv (jbn_old (jbb_ext.mv (x9.mv (jbn_old b0)))))))).1 dL_law_549 fun v197 => ?_
                            refine J.aload_n hx dL_law_550 rfl 0 rfl ?_
                            refine J.iload hx dL_law_551 4 rfl ?_
                            refine J.iconst (v := 2) hx dL_law_553 (by decide) ?_
                            refine J.iadd hx dL_law_554 ?_
                            refine J.iald8 (κ := 39) hx rfl rfl rfl (x32.mv (jN_old (jbb_ext.mv (x23.mv (jbn_old (jbb_ext.mv (x9.mv (jbn_old b0)))))))).1 dL_law_555 fun v199 => ?_
                            refine J.ite (fun h203 => ?_) (fun _ => J.nne)
                            refine J.calli hx (fun r z1 z => j_callV (κ := 1) hx rfl rfl (x32.mv (jN_old (jbb_own (S := jSX9 B22) (x23.mvh jbn_alh).1 jSX9_o))).1 (mt_X9_at (x32.mv (jN_old (jbb_own (S := jSX9 B22) (x23.mvh jbn_alh).1 jSX9_o))) z) (lw_V q2207 q2208 q2209 q129 q2210) hd_X9_at rfl ⟨Nat.le_of_ble_eq_true rfl, Nat.le_of_ble_eq_true rfl⟩ (Nat.le_of_ble_eq_true rfl) dL_law_556) ⟨⟨rfl, rfl⟩, h203.1, h203.2⟩ fun v200 w201 e202 => ?_
                            refine J.icmp_eq (tgt := 1445) hx dL_law_559 (by decide) ?_ ?_
                            · exact J.sub [0, 1, 2, 3, 4] rfl (hK1445 c33 c34 B31 j_ext.rf w201)
                            · refine J.iconst (v := 0) hx dL_law_562 (by decide) ?_
                              refine J.ite (fun h204 => ?_) (fun _ => J.nne)
                              exact J.retL hx harg hsz h204.1 h204.2 dL_law_563
                          · refine J.ite (fun e9 => ?_) (fun n9 => ?_)
                            · refine J.tsw (off := 524) (tgt := 564) hx dL_law_40 (by rw [e9]; decide) (by rw [e9]; decide) (by rw [e9]; rfl) (by decide) ?_
                              refine J.aload_n hx dL_law_564 rfl 1 rfl ?_
                              refine J.aload_n hx dL_law_565 rfl 0 rfl ?_
                              refine J.iload hx dL_law_566 4 rfl ?_
                              refine J.iconst (v := 1) hx dL_law_568 (by decide) ?_
                              refine J.iadd hx dL_law_569 ?_
                              refine J.iald8 (κ := 39) hx rfl rfl rfl (x32.mv (jN_old (jbb_ext.mv (x23.mv (jbn_old (jbb_ext.mv (x9.mv (jbn_old b0)))))))).1 dL_law_570 fun v206 => ?_
                              refine J.aload_n hx dL_law_571 rfl 0 rfl ?_
                              refine J.iload hx dL_law_572 4 rfl ?_
                              refine J.iconst (v := 2) hx dL_law_574 (by decide) ?_
                              refine J.iadd hx dL_law_575 ?_
                              refine J.iald8 (κ := 39) hx rfl rfl rfl (x32.mv (jN_old (jbb_ext.mv (x23.mv (jbn_old (jbb_ext.mv (x9.mv (jbn_old b0)))))))).1 dL_law_576 fun v208 => ?_
                              refine J.ite (fun h212 => ?_) (fun _ => J.nne)
                              refine J.callAi hx (fun r z1 z => j_callA_of (j_runV (κ := 0) hx rfl rfl (x32.mv (jN_old (jbb_ext.mv (x23.mv (jbn_old (jbb_own (S := jSX1 B8) (x9.mvh jbn_alh).1 jSX1_o)))))).1 (mt_X1_line (x32.mv (jN_old (jbb_ext.mv (x23.mv (jbn_old (jbb_own (S := jSX1 B8) (x9.mvh jbn_alh).1 jSX1_o)))))) z) (lw_V q1288 q1289 q1290 q120 q1291) hd_X1_line rfl ⟨Nat.le_of_ble_eq_true rfl, Nat.le_of_ble_eq_true rfl⟩ (Nat.le_of_ble_eq_true rfl) dL_law_577)) h212 fun v209 w210 B213 e211 x214 x215 => ?_
                              refine J.cv (lv' := [(0, .ref (B213.1 39 i0)), (1, .ref (B213.1 0 0)), (2, .ref (B213.1 1 0)), (3, .ref (B213.1 38 0)), (4, .int v29)]) (st' := [.int v209]) (by first | rfl | (simp only [x214.ad (x32.mv (jN_old (jbb_ext.mv (x23.mv (jbn_old (jbb_ext.mv (x9.mv (jbn_old b0)))))))), x214.ad (x32.mv (jN_old (jbb_ext.mv (x23.mv (jbn_old (jbb_own (S := jSX1 B8) (x9.mvh jbn_alh).1 jSX1_o)))))), x214.ad (x32.mv (jN_old (jbb_own (S := jSX9 B22) (x23.mvh jbn_alh).1 jSX9_o))), x214.ad (x32.mv jN_al)]; done) | (simp only [x214.ad (x32.mv (jN_old (jbb_ext.mv (x23.mv (jbn_old (jbb_ext.mv (x9.mv (jbn_old b0)))))))), x214.ad (x32.mv (jN_old (jbb_ext.mv (x23.mv (jbn_old (jbb_own (S := jSX1 B8) (x9.mvh jbn_alh).1 jSX1_o)))))), x214.ad (x32.mv (jN_old (jbb_own (S := jSX9 B22) (x23.mvh jbn_alh).1 jSX9_o))), x214.ad (x32.mv jN_al)]; rfl)) (by first | rfl | (simp only [x214.ad (x32.mv (jN_old (jbb_ext.mv (x23.mv (jbn_old (jbb_ext.mv (x9.mv (jbn_old b0)))))))), x214.ad (x32.mv (jN_old (jbb_ext.mv (x23.mv (jbn_old (jbb_own (S := jSX1 B8) (x9.mvh jbn_alh).1 jSX1_o)))))), x214.ad (x32.mv (jN_old (jbb_own (S := jSX9 B22) (x23.mvh jbn_alh).1 jSX9_o))), x214.ad (x32.mv jN_al)]; done) | (simp only [x214.ad (x32.mv (jN_old (jbb_ext.mv (x23.mv (jbn_old (jbb_ext.mv (x9.mv (jbn_old b0)))))))), x214.ad (x32.mv (jN_old (jbb_ext.mv (x23.mv (jbn_old (jbb_own (S := jSX1 B8) (x9.mvh jbn_alh).1 jSX1_o)))))), x214.ad (x32.mv (jN_old (jbb_own (S := jSX9 B22) (x23.mvh jbn_alh).1 jSX9_o))), x214.ad (x32.mv jN_al)]; rfl)) ?_
                              refine J.aload_n hx dL_law_580 rfl 2 rfl ?_
                              refine J.aload_n hx dL_law_581 rfl 0 rfl ?_
                              refine J.iload hx dL_law_582 4 rfl ?_
                              refine J.iconst (v := 1) hx dL_law_584 (by decide) ?_
                              refine J.iadd hx dL_law_585 ?_
                              refine J.iald8 (κ := 39) hx rfl rfl rfl (x214.mv (x32.mv (jN_old (jbb_ext.mv (x23.mv (jbn_old (jbb_ext.mv (x9.mv (jbn_old b0))))))))).1 dL_law_586 fun v217 => ?_
                              refine J.aload_n hx dL_law_587 rfl 0 rfl ?_
                              refine J.iload hx dL_law_588 4 rfl ?_
                              refine J.iconst (v := 2) hx dL_law_590 (by decide) ?_
                              refine J.iadd hx dL_law_591 ?_
                              refine J.iald8 (κ := 39) hx rfl rfl rfl (x214.mv (x32.mv (jN_old (jbb_ext.mv (x23.mv (jbn_old (jbb_ext.mv (x9.mv (jbn_old b0))))))))).1 dL_law_592 fun v219 => ?_
                              refine J.ite (fun h223 => ?_) (fun _ => J.nne)
                              refine J.calli hx (fun r z1 z => j_callV (κ := 1) hx rfl rfl (x214.mv (x32.mv (jN_old (jbb_own (S := jSX9 B22) (x23.mvh jbn_alh).1 jSX9_o)))).1 (mt_X9_line (x214.mv (x32.mv (jN_old (jbb_own (S := jSX9 B22) (x23.mvh jbn_alh).1 jSX9_o)))) z) (lw_V q2211 q2212 q2213 q129 q2214) hd_X9_line rfl ⟨Nat.le_of_ble_eq_true rfl, Nat.le_of_ble_eq_true rfl⟩ (Nat.le_of_ble_eq_true rfl) dL_law_593) ⟨⟨rfl, rfl⟩, h223.1, h223.2⟩ fun v220 w221 e222 => ?_
                              refine J.icmp_eq (tgt := 1445) hx dL_law_596 (by decide) ?_ ?_
                              · exact J.sub [0, 1, 2, 3, 4] rfl (hK1445 (c33 + 0) (c34 + 0) B213 x214 w221)
                              · refine J.iconst (v := 0) hx dL_law_599 (by decide) ?_
                                refine J.ite (fun h224 => ?_) (fun _ => J.nne)
                                exact J.retL hx harg hsz h224.1 h224.2 dL_law_600
                            · refine J.ite (fun e10 => ?_) (fun n10 => ?_)
                              · refine J.tsw (off := 561) (tgt := 601) hx dL_law_40 (by rw [e10]; decide) (by rw [e10]; decide) (by rw [e10]; rfl) (by decide) ?_
                                refine J.aload_n hx dL_law_601 rfl 1 rfl ?_
                                refine J.ite (fun h228 => ?_) (fun _ => J.nne)
                                refine J.callAi hx (fun r z1 z => j_callA_of (j_runV (κ := 0) hx rfl rfl (x32.mv (jN_old (jbb_ext.mv (x23.mv (jbn_old (jbb_own (S := jSX1 B8) (x9.mvh jbn_alh).1 jSX1_o)))))).1 (mt_X1_smooth (x32.mv (jN_old (jbb_ext.mv (x23.mv (jbn_old (jbb_own (S := jSX1 B8) (x9.mvh jbn_alh).1 jSX1_o)))))) z) (lw_V q959 q960 q961 q120 q962) hd_X1_smooth rfl ⟨Nat.le_of_ble_eq_true rfl, Nat.le_of_ble_eq_true rfl⟩ (Nat.le_of_ble_eq_true rfl) dL_law_602)) h228 fun v225 w226 B229 e227 x230 x231 => ?_
                                refine J.cv (lv' := [(0, .ref (B229.1 39 i0)), (1, .ref (B229.1 0 0)), (2, .ref (B229.1 1 0)), (3, .ref (B229.1 38 0)), (4, .int v29)]) (st' := [.int v225]) (by first | rfl | (simp only [x230.ad (x32.mv (jN_old (jbb_ext.mv (x23.mv (jbn_old (jbb_ext.mv (x9.mv (jbn_old b0)))))))), x230.ad (x32.mv (jN_old (jbb_ext.mv (x23.mv (jbn_old (jbb_own (S := jSX1 B8) (x9.mvh jbn_alh).1 jSX1_o)))))), x230.ad (x32.mv (jN_old (jbb_own (S := jSX9 B22) (x23.mvh jbn_alh).1 jSX9_o))), x230.ad (x32.mv jN_al)]; done) | (simp only [x230.ad (x32.mv (jN_old (jbb_ext.mv (x23.mv (jbn_old (jbb_ext.mv (x9.mv (jbn_old b0)))))))), x230.ad (x32.mv (jN_old (jbb_ext.mv (x23.mv (jbn_old (jbb_own (S := jSX1 B8) (x9.mvh jbn_alh).1 jSX1_o)))))), x230.ad (x32.mv (jN_old (jbb_own (S := jSX9 B22) (x23.mvh jbn_alh).1 jSX9_o))), x230.ad (x32.mv jN_al)]; rfl)) (by first | rfl | (simp only [x230.ad (x32.mv (jN_old (jbb_ext.mv (x23.mv (jbn_old (jbb_ext.mv (x9.mv (jbn_old b0)))))))), x230.ad (x32.mv (jN_old (jbb_ext.mv (x23.mv (jbn_old (jbb_own (S := jSX1 B8) (x9.mvh jbn_alh).1 jSX1_o)))))), x230.ad (x32.mv (jN_old (jbb_own (S := jSX9 B22) (x23.mvh jbn_alh).1 jSX9_o))), x230.ad (x32.mv jN_al)]; done) | (simp only [x230.ad (x32.mv (jN_old (jbb_ext.mv (x23.mv (jbn_old (jbb_ext.mv (x9.mv (jbn_old b0)))))))), x230.ad (x32.mv (jN_old (jbb_ext.mv (x23.mv (jbn_old (jbb_own (S := jSX1 B8) (x9.mvh jbn_alh).1 jSX1_o)))))), x230.ad (x32.mv (jN_old (jbb_own (S := jSX9 B22) (x23.mvh jbn_alh).1 jSX9_o))), x230.ad (x32.mv jN_al)]; rfl)) ?_
                                refine J.aload_n hx dL_law_605 rfl 2 rfl ?_
                                refine J.ite (fun h235 => ?_) (fun _ => J.nne)
                                refine J.calli hx (fun r z1 z => j_callV (κ := 1) hx rfl rfl (x230.mv (x32.mv (jN_old (jbb_own (S := jSX9 B22) (x23.mvh jbn_alh).1 jSX9_o)))).1 (mt_X9_smooth (x230.mv (x32.mv (jN_old (jbb_own (S := jSX9 B22) (x23.mvh jbn_alh).1 jSX9_o)))) z) (lw_V q1945 q1946 q1947 q129 q1948) hd_X9_smooth rfl ⟨Nat.le_of_ble_eq_true rfl, Nat.le_of_ble_eq_true rfl⟩ (Nat.le_of_ble_eq_true rfl) dL_law_606) ⟨⟨rfl, rfl⟩, h235.1, h235.2⟩ fun v232 w233 e234 => ?_
                                refine J.icmp_eq (tgt := 1445) hx dL_law_609 (by decide) ?_ ?_
                                · exact J.sub [0, 1, 2, 3, 4] rfl (hK1445 (c33 + 4) (c34 + 236) B229 x230 w233)
                                · refine J.iconst (v := 0) hx dL_law_612 (by decide) ?_
                                  refine J.ite (fun h236 => ?_) (fun _ => J.nne)
                                  exact J.retL hx harg hsz h236.1 h236.2 dL_law_613
                              · refine J.ite (fun e11 => ?_) (fun n11 => ?_)
                                · refine J.tsw (off := 574) (tgt := 614) hx dL_law_40 (by rw [e11]; decide) (by rw [e11]; decide) (by rw [e11]; rfl) (by decide) ?_
                                  refine J.aload_n hx dL_law_614 rfl 1 rfl ?_
                                  refine J.ite (fun h240 => ?_) (fun _ => J.nne)
                                  refine J.callAi hx (fun r z1 z => j_callA_of (j_runV (κ := 0) hx rfl rfl (x32.mv (jN_old (jbb_ext.mv (x23.mv (jbn_old (jbb_own (S := jSX1 B8) (x9.mvh jbn_alh).1 jSX1_o)))))).1 (mt_X1_median (x32.mv (jN_old (jbb_ext.mv (x23.mv (jbn_old (jbb_own (S := jSX1 B8) (x9.mvh jbn_alh).1 jSX1_o)))))) z) (lw_V q1155 q1156 q1157 q120 q1158) hd_X1_median rfl ⟨Nat.le_of_ble_eq_true rfl, Nat.le_of_ble_eq_true rfl⟩ (Nat.le_of_ble_eq_true rfl) dL_law_615)) h240 fun v237 w238 B241 e239 x242 x243 => ?_
                                  refine J.cv (lv' := [(0, .ref (B241.1 39 i0)), (1, .ref (B241.1 0 0)), (2, .ref (B241.1 1 0)), (3, .ref (B241.1 38 0)), (4, .int v29)]) (st' := [.int v237]) (by first | rfl | (simp only [x242.ad (x32.mv (jN_old (jbb_ext.mv (x23.mv (jbn_old (jbb_ext.mv (x9.mv (jbn_old b0)))))))), x242.ad (x32.mv (jN_old (jbb_ext.mv (x23.mv (jbn_old (jbb_own (S := jSX1 B8) (x9.mvh jbn_alh).1 jSX1_o)))))), x242.ad (x32.mv (jN_old (jbb_own (S := jSX9 B22) (x23.mvh jbn_alh).1 jSX9_o))), x242.ad (x32.mv jN_al)]; done) | (simp only [x242.ad (x32.mv (jN_old (jbb_ext.mv (x23.mv (jbn_old (jbb_ext.mv (x9.mv (jbn_old b0)))))))), x242.ad (x32.mv (jN_old (jbb_ext.mv (x23.mv (jbn_old (jbb_own (S := jSX1 B8) (x9.mvh jbn_alh).1 jSX1_o)))))), x242.ad (x32.mv (jN_old (jbb_own (S := jSX9 B22) (x23.mvh jbn_alh).1 jSX9_o))), x242.ad (x32.mv jN_al)]; rfl)) (by first | rfl | (simp only [x242.ad (x32.mv (jN_old (jbb_ext.mv (x23.mv (jbn_old (jbb_ext.mv (x9.mv (jbn_old b0)))))))), x242.ad (x32.mv (jN_old (jbb_ext.mv (x23.mv (jbn_old (jbb_own (S := jSX1 B8) (x9.mvh jbn_alh).1 jSX1_o)))))), x242.ad (x32.mv (jN_old (jbb_own (S := jSX9 B22) (x23.mvh jbn_alh).1 jSX9_o))), x242.ad (x32.mv jN_al)]; done) | (simp only [x242.ad (x32.mv (jN_old (jbb_ext.mv (x23.mv (jbn_old (jbb_ext.mv (x9.mv (jbn_old b0)))))))), x242.ad (x32.mv (jN_old (jbb_ext.mv (x23.mv (jbn_old (jbb_own (S := jSX1 B8) (x9.mvh jbn_alh).1 jSX1_o)))))), x242.ad (x32.mv (jN_old (jbb_own (S := jSX9 B22) (x23.mvh jbn_alh).1 jSX9_o))), x242.ad (x32.mv jN_al)]; rfl)) ?_
                                  refine J.aload_n hx dL_law_618 rfl 2 rfl ?_
                                  refine J.ite (fun h247 => ?_) (fun _ => J.nne)
                                  refine J.calli hx (fun r z1 z => j_callV (κ := 1) hx rfl rfl (x242.mv (x32.mv (jN_old (jbb_own (S := jSX9 B22) (x23.mvh jbn_alh).1 jSX9_o)))).1 (mt_X9_median (x242.mv (x32.mv (jN_old (jbb_own (S := jSX9 B22) (x23.mvh jbn_alh).1 jSX9_o)))) z) (lw_V q2077 q2078 q2079 q129 q2080) hd_X9_median rfl ⟨Nat.le_of_ble_eq_true rfl, Nat.le_of_ble_eq_true rfl⟩ (Nat.le_of_ble_eq_true rfl) dL_law_619) ⟨⟨rfl, rfl⟩, h247.1, h247.2⟩ fun v244 w245 e246 => ?_
                                  refine J.icmp_eq (tgt := 1445) hx dL_law_622 (by decide) ?_ ?_
                                  · exact J.sub [0, 1, 2, 3, 4] rfl (hK1445 (c33 + 4) (c34 + 236) B241 x242 w245)
                                  · refine J.iconst (v := 0) hx dL_law_625 (by decide) ?_
                                    refine J.ite (fun h248 => ?_) (fun _ => J.nne)
                                    exact J.retL hx harg hsz h248.1 h248.2 dL_law_626
                                · refine J.ite (fun e12 => ?_) (fun n12 => ?_)
                                  · refine J.tsw (off := 587) (tgt := 627) hx dL_law_40 (by rw [e12]; decide) (by rw [e12]; decide) (by rw [e12]; rfl) (by decide) ?_
                                    refine J.aload_n hx dL_law_627 rfl 1 rfl ?_
                                    refine J.ite (fun h252 => ?_) (fun _ => J.nne)
                                    refine J.callAi hx (fun r z1 z => j_callA_of (j_runV (κ := 0) hx rfl rfl (x32.mv (jN_old (jbb_ext.mv (x23.mv (jbn_old (jbb_own (S := jSX1 B8) (x9.mvh jbn_alh).1 jSX1_o)))))).1 (mt_X1_flat (x32.mv (jN_old (jbb_ext.mv (x23.mv (jbn_old (jbb_own (S := jSX1 B8) (x9.mvh jbn_alh).1 jSX1_o)))))) z) (lw_V q1159 q1160 q1161 q120 q1162) hd_X1_flat rfl ⟨Nat.le_of_ble_eq_true rfl, Nat.le_of_ble_eq_true rfl⟩ (Nat.le_of_ble_eq_true rfl) dL_law_628)) h252 fun v249 w250 B253 e251 x254 x255 => ?_
                                    refine J.cv (lv' := [(0, .ref (B253.1 39 i0)), (1, .ref (B253.1 0 0)), (2, .ref (B253.1 1 0)), (3, .ref (B253.1 38 0)), (4, .int v29)]) (st' := [.int v249]) (by first | rfl | (simp only [x254.ad (x32.mv (jN_old (jbb_ext.mv (x23.mv (jbn_old (jbb_ext.mv (x9.mv (jbn_old b0)))))))), x254.ad (x32.mv (jN_old (jbb_ext.mv (x23.mv (jbn_old (jbb_own (S := jSX1 B8) (x9.mvh jbn_alh).1 jSX1_o)))))), x254.ad (x32.mv (jN_old (jbb_own (S := jSX9 B22) (x23.mvh jbn_alh).1 jSX9_o))), x254.ad (x32.mv jN_al)]; done) | (simp only [x254.ad (x32.mv (jN_old (jbb_ext.mv (x23.mv (jbn_old (jbb_ext.mv (x9.mv (jbn_old b0)))))))), x254.ad (x32.mv (jN_old (jbb_ext.mv (x23.mv (jbn_old (jbb_own (S := jSX1 B8) (x9.mvh jbn_alh).1 jSX1_o)))))), x254.ad (x32.mv (jN_old (jbb_own (S := jSX9 B22) (x23.mvh jbn_alh).1 jSX9_o))), x254.ad (x32.mv jN_al)]; rfl)) (by first | rfl | (simp only [x254.ad (x32.mv (jN_old (jbb_ext.mv (x23.mv (jbn_old (jbb_ext.mv (x9.mv (jbn_old b0)))))))), x254.ad (x32.mv (jN_old (jbb_ext.mv (x23.mv (jbn_old (jbb_own (S := jSX1 B8) (x9.mvh jbn_alh).1 jSX1_o)))))), x254.ad (x32.mv (jN_old (jbb_own (S := jSX9 B22) (x23.mvh jbn_alh).1 jSX9_o))), x254.ad (x32.mv jN_al)]; done) | (simp only [x254.ad (x32.mv (jN_old (jbb_ext.mv (x23.mv (jbn_old (jbb_ext.mv (x9.mv (jbn_old b0)))))))), x254.ad (x32.mv (jN_old (jbb_ext.mv (x23.mv (jbn_old (jbb_own (S := jSX1 B8) (x9.mvh jbn_alh).1 jSX1_o)))))), x254.ad (x32.mv (jN_old (jbb_own (S := jSX9 B22) (x23.mvh jbn_alh).1 jSX9_o))), x254.ad (x32.mv jN_al)]; rfl)) ?_
                                    refine J.aload_n hx dL_law_631 rfl 2 rfl ?_
                                    refine J.ite (fun h259 => ?_) (fun _ => J.nne)
                                    refine J.calli hx (fun r z1 z => j_callV (κ := 1) hx rfl rfl (x254.mv (x32.mv (jN_old (jbb_own (S := jSX9 B22) (x23.mvh jbn_alh).1 jSX9_o)))).1 (mt_X9_flat (x254.mv (x32.mv (jN_old (jbb_own (S := jSX9 B22) (x23.mvh jbn_alh).1 jSX9_o)))) z) (lw_V q2081 q2082 q2083 q129 q2084) hd_X9_flat rfl ⟨Nat.le_of_ble_eq_true rfl, Nat.le_of_ble_eq_true rfl⟩ (Nat.le_of_ble_eq_true rfl) dL_law_632) ⟨⟨rfl, rfl⟩, h259.1, h259.2⟩ fun v256 w257 e258 => ?_
                                    refine J.icmp_eq (tgt := 1445) hx dL_law_635 (by decide) ?_ ?_
                                    · exact J.sub [0, 1, 2, 3, 4] rfl (hK1445 (c33 + 4) (c34 + 236) B253 x254 w257)
                                    · refine J.iconst (v := 0) hx dL_law_638 (by decide) ?_
                                      refine J.ite (fun h260 => ?_) (fun _ => J.nne)
                                      exact J.retL hx harg hsz h260.1 h260.2 dL_law_639
                                  · refine J.ite (fun e13 => ?_) (fun n13 => ?_)
                                    · refine J.tsw (off := 600) (tgt := 640) hx dL_law_40 (by rw [e13]; decide) (by rw [e13]; decide) (by rw [e13]; rfl) (by decide) ?_
                                      refine J.aload_n hx dL_law_640 rfl 1 rfl ?_
                                      refine J.ite (fun h264 => ?_) (fun _ => J.nne)
                                      refine J.callAi hx (fun r z1 z => j_callA_of (j_runV (κ := 0) hx rfl rfl (x32.mv (jN_old (jbb_ext.mv (x23.mv (jbn_old (jbb_own (S := jSX1 B8) (x9.mvh jbn_alh).1 jSX1_o)))))).1 (mt_X1_turn (x32.mv (jN_old (jbb_ext.mv (x23.mv (jbn_old (jbb_own (S := jSX1 B8) (x9.mvh jbn_alh).1 jSX1_o)))))) z) (lw_V q1163 q1164 q1165 q120 q1166) hd_X1_turn rfl ⟨Nat.le_of_ble_eq_true rfl, Nat.le_of_ble_eq_true rfl⟩ (Nat.le_of_ble_eq_true rfl) dL_law_641)) h264 fun v261 w262 B265 e263 x266 x267 => ?_
                                      refine J.cv (lv' := [(0, .ref (B265.1 39 i0)), (1, .ref (B265.1 0 0)), (2, .ref (B265.1 1 0)), (3, .ref (B265.1 38 0)), (4, .int v29)]) (st' := [.int v261]) (by first | rfl | (simp only [x266.ad (x32.mv (jN_old (jbb_ext.mv (x23.mv (jbn_old (jbb_ext.mv (x9.mv (jbn_old b0)))))))), x266.ad (x32.mv (jN_old (jbb_ext.mv (x23.mv (jbn_old (jbb_own (S := jSX1 B8) (x9.mvh jbn_alh).1 jSX1_o)))))), x266.ad (x32.mv (jN_old (jbb_own (S := jSX9 B22) (x23.mvh jbn_alh).1 jSX9_o))), x266.ad (x32.mv jN_al)]; done) | (simp only [x266.ad (x32.mv (jN_old (jbb_ext.mv (x23.mv (jbn_old (jbb_ext.mv (x9.mv (jbn_old b0)))))))), x266.ad (x32.mv (jN_old (jbb_ext.mv (x23.mv (jbn_old (jbb_own (S := jSX1 B8) (x9.mvh jbn_alh).1 jSX1_o)))))), x266.ad (x32.mv (jN_old (jbb_own (S := jSX9 B22) (x23.mvh jbn_alh).1 jSX9_o))), x266.ad (x32.mv jN_al)]; rfl)) (by first | rfl | (simp only [x266.ad (x32.mv (jN_old (jbb_ext.mv (x23.mv (jbn_old (jbb_ext.mv (x9.mv (jbn_old b0)))))))), x266.ad (x32.mv (jN_old (jbb_ext.mv (x23.mv (jbn_old (jbb_own (S := jSX1 B8) (x9.mvh jbn_alh).1 jSX1_o)))))), x266.ad (x32.mv (jN_old (jbb_own (S := jSX9 B22) (x23.mvh jbn_alh).1 jSX9_o))), x266.ad (x32.mv jN_al)]; done) | (simp only [x266.ad (x32.mv (jN_old (jbb_ext.mv (x23.mv (jbn_old (jbb_ext.mv (x9.mv (jbn_old b0)))))))), x266.ad (x32.mv (jN_old (jbb_ext.mv (x23.mv (jbn_old (jbb_own (S := jSX1 B8) (x9.mvh jbn_alh).1 jSX1_o)))))), x266.ad (x32.mv (jN_old (jbb_own (S := jSX9 B22) (x23.mvh jbn_alh).1 jSX9_o))), x266.ad (x32.mv jN_al)]; rfl)) ?_
                                      refine J.aload_n hx dL_law_644 rfl 2 rfl ?_
                                      refine J.ite (fun h271 => ?_) (fun _ => J.nne)
                                      refine J.calli hx (fun r z1 z => j_callV (κ := 1) hx rfl rfl (x266.mv (x32.mv (jN_old (jbb_own (S := jSX9 B22) (x23.mvh jbn_alh).1 jSX9_o)))).1 (mt_X9_turn (x266.mv (x32.mv (jN_old (jbb_own (S := jSX9 B22) (x23.mvh jbn_alh).1 jSX9_o)))) z) (lw_V q2085 q2086 q2087 q129 q2088) hd_X9_turn rfl ⟨Nat.le_of_ble_eq_true rfl, Nat.le_of_ble_eq_true rfl⟩ (Nat.le_of_ble_eq_true rfl) dL_law_645) ⟨⟨rfl, rfl⟩, h271.1, h271.2⟩ fun v268 w269 e270 => ?_
                                      refine J.icmp_eq (tgt := 1445) hx dL_law_648 (by decide) ?_ ?_
                                      · exact J.sub [0, 1, 2, 3, 4] rfl (hK1445 (c33 + 4) (c34 + 236) B265 x266 w269)
                                      · refine J.iconst (v := 0) hx dL_law_651 (by decide) ?_
                                        refine J.ite (fun h272 => ?_) (fun _ => J.nne)
                                        exact J.retL hx harg hsz h272.1 h272.2 dL_law_652
                                    · refine J.ite (fun e14 => ?_) (fun n14 => ?_)
                                      · refine J.tsw (off := 613) (tgt := 653) hx dL_law_40 (by rw [e14]; decide) (by rw [e14]; decide) (by rw [e14]; rfl) (by decide) ?_
                                        refine J.aload_n hx dL_law_653 rfl 1 rfl ?_
                                        refine J.aload_n hx dL_law_654 rfl 0 rfl ?_
                                        refine J.iload hx dL_law_655 4 rfl ?_
                                        refine J.iconst (v := 1) hx dL_law_657 (by decide) ?_
                                        refine J.iadd hx dL_law_658 ?_
                                        refine J.iald8 (κ := 39) hx rfl rfl rfl (x32.mv (jN_old (jbb_ext.mv (x23.mv (jbn_old (jbb_ext.mv (x9.mv (jbn_old b0)))))))).1 dL_law_659 fun v274 => ?_
                                        refine J.ite (fun h278 => ?_) (fun _ => J.nne)
                                        refine J.callAi hx (fun r z1 z => j_callA_of (j_runV (κ := 0) hx rfl rfl (x32.mv (jN_old (jbb_ext.mv (x23.mv (jbn_old (jbb_own (S := jSX1 B8) (x9.mvh jbn_alh).1 jSX1_o)))))).1 (mt_X1_clip (x32.mv (jN_old (jbb_ext.mv (x23.mv (jbn_old (jbb_own (S := jSX1 B8) (x9.mvh jbn_alh).1 jSX1_o)))))) z) (lw_V q1167 q1168 q1169 q120 q1170) hd_X1_clip rfl ⟨Nat.le_of_ble_eq_true rfl, Nat.le_of_ble_eq_true rfl⟩ (Nat.le_of_ble_eq_true rfl) dL_law_660)) h278 fun v275 w276 B279 e277 x280 x281 => ?_
                                        refine J.cv (lv' := [(0, .ref (B279.1 39 i0)), (1, .ref (B279.1 0 0)), (2, .ref (B279.1 1 0)), (3, .ref (B279.1 38 0)), (4, .int v29)]) (st' := [.int v275]) (by first | rfl | (simp only [x280.ad (x32.mv (jN_old (jbb_ext.mv (x23.mv (jbn_old (jbb_ext.mv (x9.mv (jbn_old b0)))))))), x280.ad (x32.mv (jN_old (jbb_ext.mv (x23.mv (jbn_old (jbb_own (S := jSX1 B8) (x9.mvh jbn_alh).1 jSX1_o)))))), x280.ad (x32.mv (jN_old (jbb_own (S := jSX9 B22) (x23.mvh jbn_alh).1 jSX9_o))), x280.ad (x32.mv jN_al)]; done) | (simp only [x280.ad (x32.mv (jN_old (jbb_ext.mv (x23.mv (jbn_old (jbb_ext.mv (x9.mv (jbn_old b0)))))))), x280.ad (x32.mv (jN_old (jbb_ext.mv (x23.mv (jbn_old (jbb_own (S := jSX1 B8) (x9.mvh jbn_alh).1 jSX1_o)))))), x280.ad (x32.mv (jN_old (jbb_own (S := jSX9 B22) (x23.mvh jbn_alh).1 jSX9_o))), x280.ad (x32.mv jN_al)]; rfl)) (by first | rfl | (simp only [x280.ad (x32.mv (jN_old (jbb_ext.mv (x23.mv (jbn_old (jbb_ext.mv (x9.mv (jbn_old b0)))))))), x280.ad (x32.mv (jN_old (jbb_ext.mv (x23.mv (jbn_old (jbb_own (S := jSX1 B8) (x9.mvh jbn_alh).1 jSX1_o)))))), x280.ad (x32.mv (jN_old (jbb_own (S := jSX9 B22) (x23.mvh jbn_alh).1 jSX9_o))), x280.ad (x32.mv jN_al)]; done) | (simp only [x280.ad (x32.mv (jN_old (jbb_ext.mv (x23.mv (jbn_old (jbb_ext.mv (x9.mv (jbn_old b0)))))))), x280.ad (x32.mv (jN_old (jbb_ext.mv (x23.mv (jbn_old (jbb_own (S := jSX1 B8) (x9.mvh jbn_alh).1 jSX1_o)))))), x280.ad (x32.mv (jN_old (jbb_own (S := jSX9 B22) (x23.mvh jbn_alh).1 jSX9_o))), x280.ad (x32.mv jN_al)]; rfl)) ?_
                                        refine J.aload_n hx dL_law_663 rfl 2 rfl ?_
                                        refine J.aload_n hx dL_law_664 rfl 0 rfl ?_
                                        refine J.iload hx dL_law_665 4 rfl ?_
                                        refine J.iconst (v := 1) hx dL_law_667 (by decide) ?_
                                        refine J.iadd hx dL_law_668 ?_
                                        refine J.iald8 (κ := 39) hx rfl rfl rfl (x280.mv (x32.mv (jN_old (jbb_ext.mv (x23.mv (jbn_old (jbb_ext.mv (x9.mv (jbn_old b0))))))))).1 dL_law_669 fun v283 => ?_
                                        refine J.ite (fun h287 => ?_) (fun _ => J.nne)
                                        refine J.calli hx (fun r z1 z => j_callV (κ := 1) hx rfl rfl (x280.mv (x32.mv (jN_old (jbb_own (S := jSX9 B22) (x23.mvh jbn_alh).1 jSX9_o)))).1 (mt_X9_clip (x280.mv (x32.mv (jN_old (jbb_own (S := jSX9 B22) (x23.mvh jbn_alh).1 jSX9_o)))) z) (lw_V q2089 q2090 q2091 q129 q2092) hd_X9_clip rfl ⟨Nat.le_of_ble_eq_true rfl, Nat.le_of_ble_eq_true rfl⟩ (Nat.le_of_ble_eq_true rfl) dL_law_670) ⟨⟨rfl, rfl⟩, h287.1, h287.2⟩ fun v284 w285 e286 => ?_
                                        refine J.icmp_eq (tgt := 1445) hx dL_law_673 (by decide) ?_ ?_
                                        · exact J.sub [0, 1, 2, 3, 4] rfl (hK1445 (c33 + 4) (c34 + 236) B279 x280 w285)
                                        · refine J.iconst (v := 0) hx dL_law_676 (by decide) ?_
                                          refine J.ite (fun h288 => ?_) (fun _ => J.nne)
                                          exact J.retL hx harg hsz h288.1 h288.2 dL_law_677
                                      · refine J.ite (fun e15 => ?_) (fun n15 => ?_)
                                        · refine J.tsw (off := 638) (tgt := 678) hx dL_law_40 (by rw [e15]; decide) (by rw [e15]; decide) (by rw [e15]; rfl) (by decide) ?_
                                          refine J.aload_n hx dL_law_678 rfl 1 rfl ?_
                                          refine J.aload_n hx dL_law_679 rfl 0 rfl ?_
                                          refine J.iload hx dL_law_680 4 rfl ?_
                                          refine J.iconst (v := 1) hx dL_law_682 (by decide) ?_
                                          refine J.iadd hx dL_law_683 ?_
                                          refine J.iald8 (κ := 39) hx rfl rfl rfl (x32.mv (jN_old (jbb_ext.mv (x23.mv (jbn_old (jbb_ext.mv (x9.mv (jbn_old b0)))))))).1 dL_law_684 fun v290 => ?_
                                          refine J.ite (fun h294 => ?_) (fun _ => J.nne)
                                          refine J.callAi hx (fun r z1 z => j_callA_of (j_runV (κ := 0) hx rfl rfl (x32.mv (jN_old (jbb_ext.mv (x23.mv (jbn_old (jbb_own (S := jSX1 B8) (x9.mvh jbn_alh).1 jSX1_o)))))).1 (mt_X1_lift (x32.mv (jN_old (jbb_ext.mv (x23.mv (jbn_old (jbb_own (S := jSX1 B8) (x9.mvh jbn_alh).1 jSX1_o)))))) z) (lw_V q1171 q1172 q1173 q120 q1174) hd_X1_lift rfl ⟨Nat.le_of_ble_eq_true rfl, Nat.le_of_ble_eq_true rfl⟩ (Nat.le_of_ble_eq_true rfl) dL_law_685)) h294 fun v291 w292 B295 e293 x296 x297 => ?_
                                          refine J.cv (lv' := [(0, .ref (B295.1 39 i0)), (1, .ref (B295.1 0 0)), (2, .ref (B295.1 1 0)), (3, .ref (B295.1 38 0)), (4, .int v29)]) (st' := [.int v291]) (by first | rfl | (simp only [x296.ad (x32.mv (jN_old (jbb_ext.mv (x23.mv (jbn_old (jbb_ext.mv (x9.mv (jbn_old b0)))))))), x296.ad (x32.mv (jN_old (jbb_ext.mv (x23.mv (jbn_old (jbb_own (S := jSX1 B8) (x9.mvh jbn_alh).1 jSX1_o)))))), x296.ad (x32.mv (jN_old (jbb_own (S := jSX9 B22) (x23.mvh jbn_alh).1 jSX9_o))), x296.ad (x32.mv jN_al)]; done) | (simp only [x296.ad (x32.mv (jN_old (jbb_ext.mv (x23.mv (jbn_old (jbb_ext.mv (x9.mv (jbn_old b0)))))))), x296.ad (x32.mv (jN_old (jbb_ext.mv (x23.mv (jbn_old (jbb_own (S := jSX1 B8) (x9.mvh jbn_alh).1 jSX1_o)))))), x296.ad (x32.mv (jN_old (jbb_own (S := jSX9 B22) (x23.mvh jbn_alh).1 jSX9_o))), x296.ad (x32.mv jN_al)]; rfl)) (by first | rfl | (simp only [x296.ad (x32.mv (jN_old (jbb_ext.mv (x23.mv (jbn_old (jbb_ext.mv (x9.mv (jbn_old b0)))))))), x296.ad (x32.mv (jN_old (jbb_ext.mv (x23.mv (jbn_old (jbb_own (S := jSX1 B8) (x9.mvh jbn_alh).1 jSX1_o)))))), x296.ad (x32.mv (jN_old (jbb_own (S := jSX9 B22) (x23.mvh jbn_alh).1 jSX9_o))), x296.ad (x32.mv jN_al)]; done) | (simp only [x296.ad (x32.mv (jN_old (jbb_ext.mv (x23.mv (jbn_old (jbb_ext.mv (x9.mv (jbn_old b0)))))))), x296.ad (x32.mv (jN_old (jbb_ext.mv (x23.mv (jbn_old (jbb_own (S := jSX1 B8) (x9.mvh jbn_alh).1 jSX1_o)))))), x296.ad (x32.mv (jN_old (jbb_own (S := jSX9 B22) (x23.mvh jbn_alh).1 jSX9_o))), x296.ad (x32.mv jN_al)]; rfl)) ?_
                                          refine J.aload_n hx dL_law_688 rfl 2 rfl ?_
                                          refine J.aload_n hx dL_law_689 rfl 0 rfl ?_
                                          refine J.iload hx dL_law_690 4 rfl ?_
                                          refine J.iconst (v := 1) hx dL_law_692 (by decide) ?_
                                          refine J.iadd hx dL_law_693 ?_
                                          refine J.iald8 (κ := 39) hx rfl rfl rfl (x296.mv (x32.mv (jN_old (jbb_ext.mv (x23.mv (jbn_old (jbb_ext.mv (x9.mv (jbn_old b0))))))))).1 dL_law_694 fun v299 => ?_
                                          refine J.ite (fun h303 => ?_) (fun _ => J.nne)
                                          refine J.calli hx (fun r z1 z => j_callV (κ := 1) hx rfl rfl (x296.mv (x32.mv (jN_old (jbb_own (S := jSX9 B22) (x23.mvh jbn_alh).1 jSX9_o)))).1 (mt_X9_lift (x296.mv (x32.mv (jN_old (jbb_own (S := jSX9 B22) (x23.mvh jbn_alh).1 jSX9_o)))) z) (lw_V q2093 q2094 q2095 q129 q2096) hd_X9_lift rfl ⟨Nat.le_of_ble_eq_true rfl, Nat.le_of_ble_eq_true rfl⟩ (Nat.le_of_ble_eq_true rfl) dL_law_695) ⟨⟨rfl, rfl⟩, h303.1, h303.2⟩ fun v300 w301 e302 => ?_
                                          refine J.icmp_eq (tgt := 1445) hx dL_law_698 (by decide) ?_ ?_
                                          · exact J.sub [0, 1, 2, 3, 4] rfl (hK1445 (c33 + 4) (c34 + 236) B295 x296 w301)
                                          · refine J.iconst (v := 0) hx dL_law_701 (by decide) ?_
                                            refine J.ite (fun h304 => ?_) (fun _ => J.nne)
                                            exact J.retL hx harg hsz h304.1 h304.2 dL_law_702
                                        · refine J.ite (fun e16 => ?_) (fun n16 => ?_)
                                          · refine J.tsw (off := 663) (tgt := 703) hx dL_law_40 (by rw [e16]; decide) (by rw [e16]; decide) (by rw [e16]; rfl) (by decide) ?_
                                            refine J.aload_n hx dL_law_703 rfl 1 rfl ?_
                                            refine J.aload_n hx dL_law_704 rfl 0 rfl ?_
                                            refine J.iload hx dL_law_705 4 rfl ?_
                                            refine J.iconst (v := 1) hx dL_law_707 (by decide) ?_
                                            refine J.iadd hx dL_law_708 ?_
                                            refine J.iald8 (κ := 39) hx rfl rfl rfl (x32.mv (jN_old (jbb_ext.mv (x23.mv (jbn_old (jbb_ext.mv (x9.mv (jbn_old b0)))))))).1 dL_law_709 fun v306 => ?_
                                            refine J.aload_n hx dL_law_710 rfl 0 rfl ?_
                                            refine J.iload hx dL_law_711 4 rfl ?_
                                            refine J.iconst (v := 2) hx dL_law_713 (by decide) ?_
                                            refine J.iadd hx dL_law_714 ?_
                                            refine J.iald8 (κ := 39) hx rfl rfl rfl (x32.mv (jN_old (jbb_ext.mv (x23.mv (jbn_old (jbb_ext.mv (x9.mv (jbn_old b0)))))))).1 dL_law_715 fun v308 => ?_
                                            refine J.ite (fun h312 => ?_) (fun _ => J.nne)
                                            refine J.callAi hx (fun r z1 z => j_callA_of (j_runV (κ := 0) hx rfl rfl (x32.mv (jN_old (jbb_ext.mv (x23.mv (jbn_old (jbb_own (S := jSX1 B8) (x9.mvh jbn_alh).1 jSX1_o)))))).1 (mt_X1_scale (x32.mv (jN_old (jbb_ext.mv (x23.mv (jbn_old (jbb_own (S := jSX1 B8) (x9.mvh jbn_alh).1 jSX1_o)))))) z) (lw_V q1175 q1176 q1177 q120 q1178) hd_X1_scale rfl ⟨Nat.le_of_ble_eq_true rfl, Nat.le_of_ble_eq_true rfl⟩ (Nat.le_of_ble_eq_true rfl) dL_law_716)) h312 fun v309 w310 B313 e311 x314 x315 => ?_
                                            refine J.cv (lv' := [(0, .ref (B313.1 39 i0)), (1, .ref (B313.1 0 0)), (2, .ref (B313.1 1 0)), (3, .ref (B313.1 38 0)), (4, .int v29)]) (st' := [.int v309]) (by first | rfl | (simp only [x314.ad (x32.mv (jN_old (jbb_ext.mv (x23.mv (jbn_old (jbb_ext.mv (x9.mv (jbn_old b0)))))))), x314.ad (x32.mv (jN_old (jbb_ext.mv (x23.mv (jbn_old (jbb_own (S := jSX1 B8) (x9.mvh jbn_alh).1 jSX1_o)))))), x314.ad (x32.mv (jN_old (jbb_own (S := jSX9 B22) (x23.mvh jbn_alh).1 jSX9_o))), x314.ad (x32.mv jN_al)]; done) | (simp only [x314.ad (x32.mv (jN_old (jbb_ext.mv (x23.mv (jbn_old (jbb_ext.mv (x9.mv (jbn_old b0)))))))), x314.ad (x32.mv (jN_old (jbb_ext.mv (x23.mv (jbn_old (jbb_own (S := jSX1 B8) (x9.mvh jbn_alh).1 jSX1_o)))))), x314.ad (x32.mv (jN_old (jbb_own (S := jSX9 B22) (x23.mvh jbn_alh).1 jSX9_o))), x314.ad (x32.mv jN_al)]; rfl)) (by first | rfl | (simp only [x314.ad (x32.mv (jN_old (jbb_ext.mv (x23.mv (jbn_old (jbb_ext.mv (x9.mv (jbn_old b0)))))))), x314.ad (x32.mv (jN_old (jbb_ext.mv (x23.mv (jbn_old (jbb_own (S := jSX1 B8) (x9.mvh jbn_alh).1 jSX1_o)))))), x314.ad (x32.mv (jN_old (jbb_own (S := jSX9 B22) (x23.mvh jbn_alh).1 jSX9_o))), x314.ad (x32.mv jN_al)]; done) | (simp only [x314.ad (x32.mv (jN_old (jbb_ext.mv (x23.mv (jbn_old (jbb_ext.mv (x9.mv (jbn_old b0)))))))), x314.ad (x32.mv (jN_old (jbb_ext.mv (x23.mv (jbn_old (jbb_own (S := jSX1 B8) (x9.mvh jbn_alh).1 jSX1_o)))))), x314.ad (x32.mv (jN_old (jbb_own (S := jSX9 B22) (x23.mvh jbn_alh).1 jSX9_o))), x314.ad (x32.mv jN_al)]; rfl)) ?_
                                            refine J.aload_n hx dL_law_719 rfl 2 rfl ?_
                                            refine J.aload_n hx dL_law_720 rfl 0 rfl ?_
                                            refine J.iload hx dL_law_721 4 rfl ?_
                                            refine J.iconst (v := 1) hx dL_law_723 (by decide) ?_
                                            refine J.iadd hx dL_law_724 ?_
                                            refine J.iald8 (κ := 39) hx rfl rfl rfl (x314.mv (x32.mv (jN_old (jbb_ext.mv (x23.mv (jbn_old (jbb_ext.mv (x9.mv (jbn_old b0))))))))).1 dL_law_725 fun v317 => ?_
                                            refine J.aload_n hx dL_law_726 rfl 0 rfl ?_
                                            refine J.iload hx dL_law_727 4 rfl ?_
                                            refine J.iconst (v := 2) hx dL_law_729 (by decide) ?_
                                            refine J.iadd hx dL_law_730 ?_
                                            refine J.iald8 (κ := 39) hx rfl rfl rfl (x314.mv (x32.mv (jN_old (jbb_ext.mv (x23.mv (jbn_old (jbb_ext.mv (x9.mv (jbn_old b0))))))))).1 dL_law_731 fun v319 => ?_
                                            refine J.ite (fun h323 => ?_) (fun _ => J.nne)
                                            refine J.calli hx (fun r z1 z => j_callV (κ := 1) hx rfl rfl (x314.mv (x32.mv (jN_old (jbb_own (S := jSX9 B22) (x23.mvh jbn_alh).1 jSX9_o)))).1 (mt_X9_scale (x314.mv (x32.mv (jN_old (jbb_own (S := jSX9 B22) (x23.mvh jbn_alh).1 jSX9_o)))) z) (lw_V q2097 q2098 q2099 q129 q2100) hd_X9_scale rfl ⟨Nat.le_of_ble_eq_true rfl, Nat.le_of_ble_eq_true rfl⟩ (Nat.le_of_ble_eq_true rfl) dL_law_732) ⟨⟨rfl, rfl⟩, h323.1, h323.2⟩ fun v320 w321 e322 => ?_
                                            refine J.icmp_eq (tgt := 1445) hx dL_law_735 (by decide) ?_ ?_
                                            · exact J.sub [0, 1, 2, 3, 4] rfl (hK1445 (c33 + 4) (c34 + 236) B313 x314 w321)
                                            · refine J.iconst (v := 0) hx dL_law_738 (by decide) ?_
                                              refine J.ite (fun h324 => ?_) (fun _ => J.nne)
                                              exact J.retL hx harg hsz h324.1 h324.2 dL_law_739
                                          · refine J.ite (fun e17 => ?_) (fun n17 => ?_)
                                            · refine J.tsw (off := 700) (tgt := 740) hx dL_law_40 (by rw [e17]; decide) (by rw [e17]; decide) (by rw [e17]; rfl) (by decide) ?_
                                              refine J.aload_n hx dL_law_740 rfl 1 rfl ?_
                                              refine J.aload_n hx dL_law_741 rfl 0 rfl ?_
                                              refine J.iload hx dL_law_742 4 rfl ?_
                                              refine J.iconst (v := 1) hx dL_law_744 (by decide) ?_
                                              refine J.iadd hx dL_law_745 ?_
                                              refine J.iald8 (κ := 39) hx rfl rfl rfl (x32.mv (jN_old (jbb_ext.mv (x23.mv (jbn_old (jbb_ext.mv (x9.mv (jbn_old b0)))))))).1 dL_law_746 fun v326 => ?_
                                              refine J.aload_n hx dL_law_747 rfl 0 rfl ?_
                                              refine J.iload hx dL_law_748 4 rfl ?_
                                              refine J.iconst (v := 2) hx dL_law_750 (by decide) ?_
                                              refine J.iadd hx dL_law_751 ?_
                                              refine J.iald8 (κ := 39) hx rfl rfl rfl (x32.mv (jN_old (jbb_ext.mv (x23.mv (jbn_old (jbb_ext.mv (x9.mv (jbn_old b0)))))))).1 dL_law_752 fun v328 => ?_
                                              refine J.ite (fun h332 => ?_) (fun _ => J.nne)
                                              refine J.callAi hx (fun r z1 z => j_callA_of (j_runV (κ := 0) hx rfl rfl (x32.mv (jN_old (jbb_ext.mv (x23.mv (jbn_old (jbb_own (S := jSX1 B8) (x9.mvh jbn_alh).1 jSX1_o)))))).1 (mt_X1_set (x32.mv (jN_old (jbb_ext.mv (x23.mv (jbn_old (jbb_own (S := jSX1 B8) (x9.mvh jbn_alh).1 jSX1_o)))))) z) (lw_V q1179 q1180 q1181 q120 q1182) hd_X1_set rfl ⟨Nat.le_of_ble_eq_true rfl, Nat.le_of_ble_eq_true rfl⟩ (Nat.le_of_ble_eq_true rfl) dL_law_753)) h332 fun v329 w330 B333 e331 x334 x335 => ?_
                                              refine J.cv (lv' := [(0, .ref (B333.1 39 i0)), (1, .ref (B333.1 0 0)), (2, .ref (B333.1 1 0)), (3, .ref (B333.1 38 0)), (4, .int v29)]) (st' := [.int v329]) (by first | rfl | (simp only [x334.ad (x32.mv (jN_old (jbb_ext.mv (x23.mv (jbn_old (jbb_ext.mv (x9.mv (jbn_old b0)))))))), x334.ad (x32.mv (jN_old (jbb_ext.mv (x23.mv (jbn_old (jbb_own (S := jSX1 B8) (x9.mvh jbn_alh).1 jSX1_o)))))), x334.ad (x32.mv (jN_old (jbb_own (S := jSX9 B22) (x23.mvh jbn_alh).1 jSX9_o))), x334.ad (x32.mv jN_al)]; done) | (simp only [x334.ad (x32.mv (jN_old (jbb_ext.mv (x23.mv (jbn_old (jbb_ext.mv (x9.mv (jbn_old b0)))))))), x334.ad (x32.mv (jN_old (jbb_ext.mv (x23.mv (jbn_old (jbb_own (S := jSX1 B8) (x9.mvh jbn_alh).1 jSX1_o)))))), x334.ad (x32.mv (jN_old (jbb_own (S := jSX9 B22) (x23.mvh jbn_alh).1 jSX9_o))), x334.ad (x32.mv jN_al)]; rfl)) (by first | rfl | (simp only [x334.ad (x32.mv (jN_old (jbb_ext.mv (x23.mv (jbn_old (jbb_ext.mv (x9.mv (jbn_old b0)))))))), x334.ad (x32.mv (jN_old (jbb_ext.mv (x23.mv (jbn_old (jbb_own (S := jSX1 B8) (x9.mvh jbn_alh).1 jSX1_o)))))), x334.ad (x32.mv (jN_old (jbb_own (S := jSX9 B22) (x23.mvh jbn_alh).1 jSX9_o))), x334.ad (x32.mv jN_al)]; done) | (simp only [x334.ad (x32.mv (jN_old (jbb_ext.mv (x23.mv (jbn_old (jbb_ext.mv (x9.mv (jbn_old b0)))))))), x334.ad (x32.mv (jN_old (jbb_ext.mv (x23.mv (jbn_old (jbb_own (S := jSX1 B8) (x9.mvh jbn_alh).1 jSX1_o)))))), x334.ad (x32.mv (jN_old (jbb_own (S := jSX9 B22) (x23.mvh jbn_alh).1 jSX9_o))), x334.ad (x32.mv jN_al)]; rfl)) ?_
                                              refine J.aload_n hx dL_law_756 rfl 2 rfl ?_
                                              refine J.aload_n hx dL_law_757 rfl 0 rfl ?_
                                              refine J.iload hx dL_law_758 4 rfl ?_
                                              refine J.iconst (v := 1) hx dL_law_760 (by decide) ?_
                                              refine J.iadd hx dL_law_761 ?_
                                              refine J.iald8 (κ := 39) hx rfl rfl rfl (x334.mv (x32.mv (jN_old (jbb_ext.mv (x23.mv (jbn_old (jbb_ext.mv (x9.mv (jbn_old b0))))))))).1 dL_law_762 fun v337 => ?_
                                              refine J.aload_n hx dL_law_763 rfl 0 rfl ?_
                                              refine J.iload hx dL_law_764 4 rfl ?_
                                              refine J.iconst (v := 2) hx dL_law_766 (by decide) ?_
                                              refine J.iadd hx dL_law_767 ?_
                                              refine J.iald8 (κ := 39) hx rfl rfl rfl (x334.mv (x32.mv (jN_old (jbb_ext.mv (x23.mv (jbn_old (jbb_ext.mv (x9.mv (jbn_old b0))))))))).1 dL_law_768 fun v339 => ?_
                                              refine J.ite (fun h343 => ?_) (fun _ => J.nne)
                                              refine J.calli hx (fun r z1 z => j_callV (κ := 1) hx rfl rfl (x334.mv (x32.mv (jN_old (jbb_own (S := jSX9 B22) (x23.mvh jbn_alh).1 jSX9_o)))).1 (mt_X9_set (x334.mv (x32.mv (jN_old (jbb_own (S := jSX9 B22) (x23.mvh jbn_alh).1 jSX9_o)))) z) (lw_V q2101 q2102 q2103 q129 q2104) hd_X9_set rfl ⟨Nat.le_of_ble_eq_true rfl, Nat.le_of_ble_eq_true rfl⟩ (Nat.le_of_ble_eq_true rfl) dL_law_769) ⟨⟨rfl, rfl⟩, h343.1, h343.2⟩ fun v340 w341 e342 => ?_
                                              refine J.icmp_eq (tgt := 1445) hx dL_law_772 (by decide) ?_ ?_
                                              · exact J.sub [0, 1, 2, 3, 4] rfl (hK1445 (c33 + 4) (c34 + 236) B333 x334 w341)
                                              · refine J.iconst (v := 0) hx dL_law_775 (by decide) ?_
                                                refine J.ite (fun h344 => ?_) (fun _ => J.nne)
                                                exact J.retL hx harg hsz h344.1 h344.2 dL_law_776
                                            · refine J.ite (fun e18 => ?_) (fun n18 => ?_)
                                              · refine J.tsw (off := 737) (tgt := 777) hx dL_law_40 (by rw [e18]; decide) (by rw [e18]; decide) (by rw [e18]; rfl) (by decide) ?_
                                                refine J.aload_n hx dL_law_777 rfl 1 rfl ?_
                                                refine J.aload_n hx dL_law_778 rfl 0 rfl ?_
                                                refine J.iload hx dL_law_779 4 rfl ?_
                                                refine J.iconst (v := 1) hx dL_law_781 (by decide) ?_
                                                refine J.iadd hx dL_law_782 ?_
                                                refine J.iald8 (κ := 39) hx rfl rfl rfl (x32.mv (jN_old (jbb_ext.mv (x23.mv (jbn_old (jbb_ext.mv (x9.mv (jbn_old b0)))))))).1 dL_law_783 fun v346 => ?_
                                                refine J.ite (fun h350 => ?_) (fun _ => J.nne)
                                                refine J.callAi hx (fun r z1 z => j_callA_of (j_runV (κ := 0) hx rfl rfl (x32.mv (jN_old (jbb_ext.mv (x23.mv (jbn_old (jbb_own (S := jSX1 B8) (x9.mvh jbn_alh).1 jSX1_o)))))).1 (mt_X1_noise (x32.mv (jN_old (jbb_ext.mv (x23.mv (jbn_old (jbb_own (S := jSX1 B8) (x9.mvh jbn_alh).1 jSX1_o)))))) z) (lw_V q1183 q1184 q1185 q120 q1186) hd_X1_noise rfl ⟨Nat.le_of_ble_eq_true rfl, Nat.le_of_ble_eq_true rfl⟩ (Nat.le_of_ble_eq_true rfl) dL_law_784)) h350 fun v347 w348 B351 e349 x352 x353 => ?_
                                                refine J.cv (lv' := [(0, .ref (B351.1 39 i0)), (1, .ref (B351.1 0 0)), (2, .ref (B351.1 1 0)), (3, .ref (B351.1 38 0)), (4, .int v29)]) (st' := [.int v347]) (by first | rfl | (simp only [x352.ad (x32.mv (jN_old (jbb_ext.mv (x23.mv (jbn_old (jbb_ext.mv (x9.mv (jbn_old b0)))))))), x352.ad (x32.mv (jN_old (jbb_ext.mv (x23.mv (jbn_old (jbb_own (S := jSX1 B8) (x9.mvh jbn_alh).1 jSX1_o)))))), x352.ad (x32.mv (jN_old (jbb_own (S := jSX9 B22) (x23.mvh jbn_alh).1 jSX9_o))), x352.ad (x32.mv jN_al)]; done) | (simp only [x352.ad (x32.mv (jN_old (jbb_ext.mv (x23.mv (jbn_old (jbb_ext.mv (x9.mv (jbn_old b0)))))))), x352.ad (x32.mv (jN_old (jbb_ext.mv (x23.mv (jbn_old (jbb_own (S := jSX1 B8) (x9.mvh jbn_alh).1 jSX1_o)))))), x352.ad (x32.mv (jN_old (jbb_own (S := jSX9 B22) (x23.mvh jbn_alh).1 jSX9_o))), x352.ad (x32.mv jN_al)]; rfl)) (by first | rfl | (simp only [x352.ad (x32.mv (jN_old (jbb_ext.mv (x23.mv (jbn_old (jbb_ext.mv (x9.mv (jbn_old b0)))))))), x352.ad (x32.mv (jN_old (jbb_ext.mv (x23.mv (jbn_old (jbb_own (S := jSX1 B8) (x9.mvh jbn_alh).1 jSX1_o)))))), x352.ad (x32.mv (jN_old (jbb_own (S := jSX9 B22) (x23.mvh jbn_alh).1 jSX9_o))), x352.ad (x32.mv jN_al)]; done) | (simp only [x352.ad (x32.mv (jN_old (jbb_ext.mv (x23.mv (jbn_old (jbb_ext.mv (x9.mv (jbn_old b0)))))))), x352.ad (x32.mv (jN_old (jbb_ext.mv (x23.mv (jbn_old (jbb_own (S := jSX1 B8) (x9.mvh jbn_alh).1 jSX1_o)))))), x352.ad (x32.mv (jN_old (jbb_own (S := jSX9 B22) (x23.mvh jbn_alh).1 jSX9_o))), x352.ad (x32.mv jN_al)]; rfl)) ?_
                                                refine J.aload_n hx dL_law_787 rfl 2 rfl ?_
                                                refine J.aload_n hx dL_law_788 rfl 0 rfl ?_
                                                refine J.iload hx dL_law_789 4 rfl ?_
                                                refine J.iconst (v := 1) hx dL_law_791 (by decide) ?_
                                                refine J.iadd hx dL_law_792 ?_
                                                refine J.iald8 (κ := 39) hx rfl rfl rfl (x352.mv (x32.mv (jN_old (jbb_ext.mv (x23.mv (jbn_old (jbb_ext.mv (x9.mv (jbn_old b0))))))))).1 dL_law_793 fun v355 => ?_
                                                refine J.ite (fun h359 => ?_) (fun _ => J.nne)
                                                refine J.calli hx (fun r z1 z => j_callV (κ := 1) hx rfl rfl (x352.mv (x32.mv (jN_old (jbb_own (S := jSX9 B22) (x23.mvh jbn_alh).1 jSX9_o)))).1 (mt_X9_noise (x352.mv (x32.mv (jN_old (jbb_own (S := jSX9 B22) (x23.mvh jbn_alh).1 jSX9_o)))) z) (lw_V q2105 q2106 q2107 q129 q2108) hd_X9_noise rfl ⟨Nat.le_of_ble_eq_true rfl, Nat.le_of_ble_eq_true rfl⟩ (Nat.le_of_ble_eq_true rfl) dL_law_794) ⟨⟨rfl, rfl⟩, h359.1, h359.2⟩ fun v356 w357 e358 => ?_
                                                refine J.icmp_eq (tgt := 1445) hx dL_law_797 (by decide) ?_ ?_
                                                · exact J.sub [0, 1, 2, 3, 4] rfl (hK1445 (c33 + 4) (c34 + 236) B351 x352 w357)
                                                · refine J.iconst (v := 0) hx dL_law_800 (by decide) ?_
                                                  refine J.ite (fun h360 => ?_) (fun _ => J.nne)
                                                  exact J.retL hx harg hsz h360.1 h360.2 dL_law_801
                                              · refine J.ite (fun e19 => ?_) (fun n19 => ?_)
                                                · refine J.tsw (off := 762) (tgt := 802) hx dL_law_40 (by rw [e19]; decide) (by rw [e19]; decide) (by rw [e19]; rfl) (by decide) ?_
                                                  refine J.aload_n hx dL_law_802 rfl 1 rfl ?_
                                                  refine J.aload_n hx dL_law_803 rfl 0 rfl ?_
                                                  refine J.iload hx dL_law_804 4 rfl ?_
                                                  refine J.iconst (v := 1) hx dL_law_806 (by decide) ?_
                                                  refine J.iadd hx dL_law_807 ?_
                                                  refine J.iald8 (κ := 39) hx rfl rfl rfl (x32.mv (jN_old (jbb_ext.mv (x23.mv (jbn_old (jbb_ext.mv (x9.mv (jbn_old b0)))))))).1 dL_law_808 fun v362 => ?_
                                                  refine J.aload_n hx dL_law_809 rfl 0 rfl ?_
                                                  refine J.iload hx dL_law_810 4 rfl ?_
                                                  refine J.iconst (v := 2) hx dL_law_812 (by decide) ?_
                                                  refine J.iadd hx dL_law_813 ?_
                                                  refine J.iald8 (κ := 39) hx rfl rfl rfl (x32.mv (jN_old (jbb_ext.mv (x23.mv (jbn_old (jbb_ext.mv (x9.mv (jbn_old b0)))))))).1 dL_law_814 fun v364 => ?_
                                                  refine J.ite (fun h368 => ?_) (fun _ => J.nne)
                                                  refine J.callAi hx (fun r z1 z => j_callA_of (j_runV (κ := 0) hx rfl rfl (x32.mv (jN_old (jbb_ext.mv (x23.mv (jbn_old (jbb_own (S := jSX1 B8) (x9.mvh jbn_alh).1 jSX1_o)))))).1 (mt_X1_cut (x32.mv (jN_old (jbb_ext.mv (x23.mv (jbn_old (jbb_own (S := jSX1 B8) (x9.mvh jbn_alh).1 jSX1_o)))))) z) (lw_V q1187 q1188 q1189 q120 q1190) hd_X1_cut rfl ⟨Nat.le_of_ble_eq_true rfl, Nat.le_of_ble_eq_true rfl⟩ (Nat.le_of_ble_eq_true rfl) dL_law_815)) h368 fun v365 w366 B369 e367 x370 x371 => ?_
                                                  refine J.cv (lv' := [(0, .ref (B369.1 39 i0)), (1, .ref (B369.1 0 0)), (2, .ref (B369.1 1 0)), (3, .ref (B369.1 38 0)), (4, .int v29)]) (st' := [.int v365]) (by first | rfl | (simp only [x370.ad (x32.mv (jN_old (jbb_ext.mv (x23.mv (jbn_old (jbb_ext.mv (x9.mv (jbn_old b0)))))))), x370.ad (x32.mv (jN_old (jbb_ext.mv (x23.mv (jbn_old (jbb_own (S := jSX1 B8) (x9.mvh jbn_alh).1 jSX1_o)))))), x370.ad (x32.mv (jN_old (jbb_own (S := jSX9 B22) (x23.mvh jbn_alh).1 jSX9_o))), x370.ad (x32.mv jN_al)]; done) | (simp only [x370.ad (x32.mv (jN_old (jbb_ext.mv (x23.mv (jbn_old (jbb_ext.mv (x9.mv (jbn_old b0)))))))), x370.ad (x32.mv (jN_old (jbb_ext.mv (x23.mv (jbn_old (jbb_own (S := jSX1 B8) (x9.mvh jbn_alh).1 jSX1_o)))))), x370.ad (x32.mv (jN_old (jbb_own (S := jSX9 B22) (x23.mvh jbn_alh).1 jSX9_o))), x370.ad (x32.mv jN_al)]; rfl)) (by first | rfl | (simp only [x370.ad (x32.mv (jN_old (jbb_ext.mv (x23.mv (jbn_old (jbb_ext.mv (x9.mv (jbn_old b0)))))))), x370.ad (x32.mv (jN_old (jbb_ext.mv (x23.mv (jbn_old (jbb_own (S := jSX1 B8) (x9.mvh jbn_alh).1 jSX1_o)))))), x370.ad (x32.mv (jN_old (jbb_own (S := jSX9 B22) (x23.mvh jbn_alh).1 jSX9_o))), x370.ad (x32.mv jN_al)]; done) | (simp only [x370.ad (x32.mv (jN_old (jbb_ext.mv (x23.mv (jbn_old (jbb_ext.mv (x9.mv (jbn_old b0)))))))), x370.ad (x32.mv (jN_old (jbb_ext.mv (x23.mv (jbn_old (jbb_own (S := jSX1 B8) (x9.mvh jbn_alh).1 jSX1_o)))))), x370.ad (x32.mv (jN_old (jbb_own (S := jSX9 B22) (x23.mvh jbn_alh).1 jSX9_o))), x370.ad (x32.mv jN_al)]; rfl)) ?_
                                                  refine J.aload_n hx dL_law_818 rfl 2 rfl ?_
                                                  refine J.aload_n hx dL_law_819 rfl 0 rfl ?_
                                                  refine J.iload hx dL_law_820 4 rfl ?_
                                                  refine J.iconst (v := 1) hx dL_law_822 (by decide) ?_
                                                  refine J.iadd hx dL_law_823 ?_
                                                  refine J.iald8 (κ := 39) hx rfl rfl rfl (x370.mv (x32.mv (jN_old (jbb_ext.mv (x23.mv (jbn_old (jbb_ext.mv (x9.mv (jbn_old b0))))))))).1 dL_law_824 fun v373 => ?_
                                                  refine J.aload_n hx dL_law_825 rfl 0 rfl ?_
                                                  refine J.iload hx dL_law_826 4 rfl ?_
                                                  refine J.iconst (v := 2) hx dL_law_828 (by decide) ?_
                                                  refine J.iadd hx dL_law_829 ?_
                                                  refine J.iald8 (κ := 39) hx rfl rfl rfl (x370.mv (x32.mv (jN_old (jbb_ext.mv (x23.mv (jbn_old (jbb_ext.mv (x9.mv (jbn_old b0))))))))).1 dL_law_830 fun v375 => ?_
                                                  refine J.ite (fun h379 => ?_) (fun _ => J.nne)
                                                  refine J.calli hx (fun r z1 z => j_callV (κ := 1) hx rfl rfl (x370.mv (x32.mv (jN_old (jbb_own (S := jSX9 B22) (x23.mvh jbn_alh).1 jSX9_o)))).1 (mt_X9_cut (x370.mv (x32.mv (jN_old (jbb_own (S := jSX9 B22) (x23.mvh jbn_alh).1 jSX9_o)))) z) (lw_V q2109 q2110 q2111 q129 q2112) hd_X9_cut rfl ⟨Nat.le_of_ble_eq_true rfl, Nat.le_of_ble_eq_true rfl⟩ (Nat.le_of_ble_eq_true rfl) dL_law_831) ⟨⟨rfl, rfl⟩, h379.1, h379.2⟩ fun v376 w377 e378 => ?_
                                                  refine J.icmp_eq (tgt := 1445) hx dL_law_834 (by decide) ?_ ?_
                                                  · exact J.sub [0, 1, 2, 3, 4] rfl (hK1445 (c33 + 4) (c34 + 236) B369 x370 w377)
                                                  · refine J.iconst (v := 0) hx dL_law_837 (by decide) ?_
                                                    refine J.ite (fun h380 => ?_) (fun _ => J.nne)
                                                    exact J.retL hx harg hsz h380.1 h380.2 dL_law_838
                                                · refine J.ite (fun e20 => ?_) (fun n20 => ?_)
                                                  · refine J.tsw (off := 799) (tgt := 839) hx dL_law_40 (by rw [e20]; decide) (by rw [e20]; decide) (by rw [e20]; rfl) (by decide) ?_
                                                    refine J.aload_n hx dL_law_839 rfl 1 rfl ?_
                                                    refine J.aload_n hx dL_law_840 rfl 0 rfl ?_
                                                    refine J.iload hx dL_law_841 4 rfl ?_
                                                    refine J.iconst (v := 1) hx dL_law_843 (by decide) ?_
                                                    refine J.iadd hx dL_law_844 ?_
                                                    refine J.iald8 (κ := 39) hx rfl rfl rfl (x32.mv (jN_old (jbb_ext.mv (x23.mv (jbn_old (jbb_ext.mv (x9.mv (jbn_old b0)))))))).1 dL_law_845 fun v382 => ?_
                                                    refine J.aload_n hx dL_law_846 rfl 0 rfl ?_
                                                    refine J.iload hx dL_law_847 4 rfl ?_
                                                    refine J.iconst (v := 2) hx dL_law_849 (by decide) ?_
                                                    refine J.iadd hx dL_law_850 ?_
                                                    refine J.iald8 (κ := 39) hx rfl rfl rfl (x32.mv (jN_old (jbb_ext.mv (x23.mv (jbn_old (jbb_ext.mv (x9.mv (jbn_old b0)))))))).1 dL_law_851 fun v384 => ?_
                                                    refine J.i2l hx dL_law_852 ?_
                                                    refine J.bipush (v := 32) hx dL_law_853 (by decide) ?_
                                                    refine J.lshl hx dL_law_855 ?_
                                                    refine J.aload_n hx dL_law_856 rfl 0 rfl ?_
                                                    refine J.iload hx dL_law_857 4 rfl ?_
                                                    refine J.iconst (v := 3) hx dL_law_859 (by decide) ?_
                                                    refine J.iadd hx dL_law_860 ?_
                                                    refine J.iald8 (κ := 39) hx rfl rfl rfl (x32.mv (jN_old (jbb_ext.mv (x23.mv (jbn_old (jbb_ext.mv (x9.mv (jbn_old b0)))))))).1 dL_law_861 fun v386 => ?_
                                                    refine J.i2l hx dL_law_862 ?_
                                                    refine J.ldc2 (v := 4294967295) hx q2344 dL_law_863 ?_
                                                    refine J.land hx dL_law_866 ?_
                                                    refine J.lor hx dL_law_867 ?_
                                                    refine J.ite (fun h390 => ?_) (fun _ => J.nne)
                                                    refine J.callAi hx (fun r z1 z => j_callA_of (j_runV (κ := 0) hx rfl rfl (x32.mv (jN_old (jbb_ext.mv (x23.mv (jbn_old (jbb_own (S := jSX1 B8) (x9.mvh jbn_alh).1 jSX1_o)))))).1 (mt_X1_ways (x32.mv (jN_old (jbb_ext.mv (x23.mv (jbn_old (jbb_own (S := jSX1 B8) (x9.mvh jbn_alh).1 jSX1_o)))))) z) (lw_V q1205 q1206 q1207 q120 q1208) hd_X1_ways rfl ⟨Nat.le_of_ble_eq_true rfl, Nat.le_of_ble_eq_true rfl⟩ (Nat.le_of_ble_eq_true rfl) dL_law_868)) h390 fun v387 w388 B391 e389 x392 x393 => ?_
                                                    refine J.cv (lv' := [(0, .ref (B391.1 39 i0)), (1, .ref (B391.1 0 0)), (2, .ref (B391.1 1 0)), (3, .ref (B391.1 38 0)), (4, .int v29)]) (st' := [.int v387]) (by first | rfl | (simp only [x392.ad (x32.mv (jN_old (jbb_ext.mv (x23.mv (jbn_old (jbb_ext.mv (x9.mv (jbn_old b0)))))))), x392.ad (x32.mv (jN_old (jbb_ext.mv (x23.mv (jbn_old (jbb_own (S := jSX1 B8) (x9.mvh jbn_alh).1 jSX1_o)))))), x392.ad (x32.mv (jN_old (jbb_own (S := jSX9 B22) (x23.mvh jbn_alh).1 jSX9_o))), x392.ad (x32.mv jN_al)]; done) | (simp only [x392.ad (x32.mv (jN_old (jbb_ext.mv (x23.mv (jbn_old (jbb_ext.mv (x9.mv (jbn_old b0)))))))), x392.ad (x32.mv (jN_old (jbb_ext.mv (x23.mv (jbn_old (jbb_own (S := jSX1 B8) (x9.mvh jbn_alh).1 jSX1_o)))))), x392.ad (x32.mv (jN_old (jbb_own (S := jSX9 B22) (x23.mvh jbn_alh).1 jSX9_o))), x392.ad (x32.mv jN_al)]; rfl)) (by first | rfl | (simp only [x392.ad (x32.mv (jN_old (jbb_ext.mv (x23.mv (jbn_old (jbb_ext.mv (x9.mv (jbn_old b0)))))))), x392.ad (x32.mv (jN_old (jbb_ext.mv (x23.mv (jbn_old (jbb_own (S := jSX1 B8) (x9.mvh jbn_alh).1 jSX1_o)))))), x392.ad (x32.mv (jN_old (jbb_own (S := jSX9 B22) (x23.mvh jbn_alh).1 jSX9_o))), x392.ad (x32.mv jN_al)]; done) | (simp only [x392.ad (x32.mv (jN_old (jbb_ext.mv (x23.mv (jbn_old (jbb_ext.mv (x9.mv (jbn_old b0)))))))), x392.ad (x32.mv (jN_old (jbb_ext.mv (x23.mv (jbn_old (jbb_own (S := jSX1 B8) (x9.mvh jbn_alh).1 jSX1_o)))))), x392.ad (x32.mv (jN_old (jbb_own (S := jSX9 B22) (x23.mvh jbn_alh).1 jSX9_o))), x392.ad (x32.mv jN_al)]; rfl)) ?_
                                                    refine J.aload_n hx dL_law_871 rfl 2 rfl ?_
                                                    refine J.aload_n hx dL_law_872 rfl 0 rfl ?_
                                                    refine J.iload hx dL_law_873 4 rfl ?_
                                                    refine J.iconst (v := 1) hx dL_law_875 (by decide) ?_
                                                    refine J.iadd hx dL_law_876 ?_
                                                    refine J.iald8 (κ := 39) hx rfl rfl rfl (x392.mv (x32.mv (jN_old (jbb_ext.mv (x23.mv (jbn_old (jbb_ext.mv (x9.mv (jbn_old b0))))))))).1 dL_law_877 fun v395 => ?_
                                                    refine J.aload_n hx dL_law_878 rfl 0 rfl ?_
                                                    refine J.iload hx dL_law_879 4 rfl ?_
                                                    refine J.iconst (v := 2) hx dL_law_881 (by decide) ?_
                                                    refine J.iadd hx dL_law_882 ?_
                                                    refine J.iald8 (κ := 39) hx rfl rfl rfl (x392.mv (x32.mv (jN_old (jbb_ext.mv (x23.mv (jbn_old (jbb_ext.mv (x9.mv (jbn_old b0))))))))).1 dL_law_883 fun v397 => ?_
                                                    refine J.i2l hx dL_law_884 ?_
                                                    refine J.bipush (v := 32) hx dL_law_885 (by decide) ?_
                                                    refine J.lshl hx dL_law_887 ?_
                                                    refine J.aload_n hx dL_law_888 rfl 0 rfl ?_
                                                    refine J.iload hx dL_law_889 4 rfl ?_
                                                    refine J.iconst (v := 3) hx dL_law_891 (by decide) ?_
                                                    refine J.iadd hx dL_law_892 ?_
                                                    refine J.iald8 (κ := 39) hx rfl rfl rfl (x392.mv (x32.mv (jN_old (jbb_ext.mv (x23.mv (jbn_old (jbb_ext.mv (x9.mv (jbn_old b0))))))))).1 dL_law_893 fun v399 => ?_
                                                    refine J.i2l hx dL_law_894 ?_
                                                    refine J.ldc2 (v := 4294967295) hx q2344 dL_law_895 ?_
                                                    refine J.land hx dL_law_898 ?_
                                                    refine J.lor hx dL_law_899 ?_
                                                    refine J.ite (fun h403 => ?_) (fun _ => J.nne)
                                                    refine J.calli hx (fun r z1 z => j_callV (κ := 1) hx rfl rfl (x392.mv (x32.mv (jN_old (jbb_own (S := jSX9 B22) (x23.mvh jbn_alh).1 jSX9_o)))).1 (mt_X9_ways (x392.mv (x32.mv (jN_old (jbb_own (S := jSX9 B22) (x23.mvh jbn_alh).1 jSX9_o)))) z) (lw_V q2113 q2114 q2115 q129 q2116) hd_X9_ways rfl ⟨Nat.le_of_ble_eq_true rfl, Nat.le_of_ble_eq_true rfl⟩ (Nat.le_of_ble_eq_true rfl) dL_law_900) ⟨⟨rfl, rfl⟩, h403.1, h403.2⟩ fun v400 w401 e402 => ?_
                                                    refine J.icmp_eq (tgt := 1445) hx dL_law_903 (by decide) ?_ ?_
                                                    · exact J.sub [0, 1, 2, 3, 4] rfl (hK1445 (c33 + 160) (c34 + 9440) B391 x392 w401)
                                                    · refine J.iconst (v := 0) hx dL_law_906 (by decide) ?_
                                                      refine J.ite (fun h404 => ?_) (fun _ => J.nne)
                                                      exact J.retL hx harg hsz h404.1 h404.2 dL_law_907
                                                  · refine J.ite (fun e21 => ?_) (fun n21 => ?_)
                                                    · refine J.tsw (off := 868) (tgt := 908) hx dL_law_40 (by rw [e21]; decide) (by rw [e21]; decide) (by rw [e21]; rfl) (by decide) ?_
                                                      refine J.aload_n hx dL_law_908 rfl 1 rfl ?_
                                                      refine J.aload_n hx dL_law_909 rfl 0 rfl ?_
                                                      refine J.iload hx dL_law_910 4 rfl ?_
                                                      refine J.iconst (v := 1) hx dL_law_912 (by decide) ?_
                                                      refine J.iadd hx dL_law_913 ?_
                                                      refine J.iald8 (κ := 39) hx rfl rfl rfl (x32.mv (jN_old (jbb_ext.mv (x23.mv (jbn_old (jbb_ext.mv (x9.mv (jbn_old b0)))))))).1 dL_law_914 fun v406 => ?_
                                                      refine J.ite (fun h410 => ?_) (fun _ => J.nne)
                                                      refine J.calli hx (fun r z1 z => j_callV (κ := 0) hx rfl rfl (x32.mv (jN_old (jbb_ext.mv (x23.mv (jbn_old (jbb_own (S := jSX1 B8) (x9.mvh jbn_alh).1 jSX1_o)))))).1 (mt_X1_status (x32.mv (jN_old (jbb_ext.mv (x23.mv (jbn_old (jbb_own (S := jSX1 B8) (x9.mvh jbn_alh).1 jSX1_o)))))) z) (lw_V q1191 q1192 q1193 q120 q1194) hd_X1_status rfl ⟨Nat.le_of_ble_eq_true rfl, Nat.le_of_ble_eq_true rfl⟩ (Nat.le_of_ble_eq_true rfl) dL_law_915) ⟨⟨rfl, rfl⟩, h410.1, h410.2⟩ fun v407 w408 e409 => ?_
                                                      refine J.aload_n hx dL_law_918 rfl 2 rfl ?_
                                                      refine J.aload_n hx dL_law_919 rfl 0 rfl ?_
                                                      refine J.iload hx dL_law_920 4 rfl ?_
                                                      refine J.iconst (v := 1) hx dL_law_922 (by decide) ?_
                                                      refine J.iadd hx dL_law_923 ?_
                                                      refine J.iald8 (κ := 39) hx rfl rfl rfl (x32.mv (jN_old (jbb_ext.mv (x23.mv (jbn_old (jbb_ext.mv (x9.mv (jbn_old b0)))))))).1 dL_law_924 fun v412 => ?_
                                                      refine J.ite (fun h416 => ?_) (fun _ => J.nne)
                                                      refine J.calli hx (fun r z1 z => j_callV (κ := 1) hx rfl rfl (x32.mv (jN_old (jbb_own (S := jSX9 B22) (x23.mvh jbn_alh).1 jSX9_o))).1 (mt_X9_status (x32.mv (jN_old (jbb_own (S := jSX9 B22) (x23.mvh jbn_alh).1 jSX9_o))) z) (lw_V q2127 q2128 q2129 q129 q2130) hd_X9_status rfl ⟨Nat.le_of_ble_eq_true rfl, Nat.le_of_ble_eq_true rfl⟩ (Nat.le_of_ble_eq_true rfl) dL_law_925) ⟨⟨rfl, rfl⟩, h416.1, h416.2⟩ fun v413 w414 e415 => ?_
                                                      refine J.icmp_eq (tgt := 1445) hx dL_law_928 (by decide) ?_ ?_
                                                      · exact J.sub [0, 1, 2, 3, 4] rfl (hK1445 c33 c34 B31 j_ext.rf w414)
                                                      · refine J.iconst (v := 0) hx dL_law_931 (by decide) ?_
                                                        refine J.ite (fun h417 => ?_) (fun _ => J.nne)
                                                        exact J.retL hx harg hsz h417.1 h417.2 dL_law_932
                                                    · refine J.ite (fun e22 => ?_) (fun n22 => ?_)
                                                      · refine J.tsw (off := 893) (tgt := 933) hx dL_law_40 (by rw [e22]; decide) (by rw [e22]; decide) (by rw [e22]; rfl) (by decide) ?_
                                                        refine J.aload_n hx dL_law_933 rfl 1 rfl ?_
                                                        refine J.ite (fun h421 => ?_) (fun _ => J.nne)
                                                        refine J.calli hx (fun r z1 z => j_callV (κ := 0) hx rfl rfl (x32.mv (jN_old (jbb_ext.mv (x23.mv (jbn_old (jbb_own (S := jSX1 B8) (x9.mvh jbn_alh).1 jSX1_o)))))).1 (mt_X1_undo (x32.mv (jN_old (jbb_ext.mv (x23.mv (jbn_old (jbb_own (S := jSX1 B8) (x9.mvh jbn_alh).1 jSX1_o)))))) z) (lw_V q1195 q1196 q1197 q120 q1198) hd_X1_undo rfl ⟨Nat.le_of_ble_eq_true rfl, Nat.le_of_ble_eq_true rfl⟩ (Nat.le_of_ble_eq_true rfl) dL_law_934) ⟨⟨rfl, rfl⟩, h421.1, h421.2⟩ fun v418 w419 e420 => ?_
                                                        refine J.aload_n hx dL_law_937 rfl 2 rfl ?_
                                                        refine J.ite (fun h425 => ?_) (fun _ => J.nne)
                                                        refine J.calli hx (fun r z1 z => j_callV (κ := 1) hx rfl rfl (x32.mv (jN_old (jbb_own (S := jSX9 B22) (x23.mvh jbn_alh).1 jSX9_o))).1 (mt_X9_undo (x32.mv (jN_old (jbb_own (S := jSX9 B22) (x23.mvh jbn_alh).1 jSX9_o))) z) (lw_V q2131 q2132 q2133 q129 q2134) hd_X9_undo rfl ⟨Nat.le_of_ble_eq_true rfl, Nat.le_of_ble_eq_true rfl⟩ (Nat.le_of_ble_eq_true rfl) dL_law_938) ⟨⟨rfl, rfl⟩, h425.1, h425.2⟩ fun v422 w423 e424 => ?_
                                                        refine J.icmp_eq (tgt := 1445) hx dL_law_941 (by decide) ?_ ?_
                                                        · exact J.sub [0, 1, 2, 3, 4] rfl (hK1445 c33 c34 B31 j_ext.rf w423)
                                                        · refine J.iconst (v := 0) hx dL_law_944 (by decide) ?_
                                                          refine J.ite (fun h426 => ?_) (fun _ => J.nne)
                                                          exact J.retL hx harg hsz h426.1 h426.2 dL_law_945
                                                      · refine J.ite (fun e23 => ?_) (fun n23 => ?_)
                                                        · refine J.tsw (off := 906) (tgt := 946) hx dL_law_40 (by rw [e23]; decide) (by rw [e23]; decide) (by rw [e23]; rfl) (by decide) ?_
                                                          refine J.aload_n hx dL_law_946 rfl 1 rfl ?_
                                                          refine J.aload_n hx dL_law_947 rfl 0 rfl ?_
                                                          refine J.iload hx dL_law_948 4 rfl ?_
                                                          refine J.iconst (v := 1) hx dL_law_950 (by decide) ?_
                                                          refine J.iadd hx dL_law_951 ?_
                                                          refine J.iald8 (κ := 39) hx rfl rfl rfl (x32.mv (jN_old (jbb_ext.mv (x23.mv (jbn_old (jbb_ext.mv (x9.mv (jbn_old b0)))))))).1 dL_law_952 fun v428 => ?_
                                                          refine J.aload_n hx dL_law_953 rfl 0 rfl ?_
                                                          refine J.iload hx dL_law_954 4 rfl ?_
                                                          refine J.iconst (v := 2) hx dL_law_956 (by decide) ?_
                                                          refine J.iadd hx dL_law_957 ?_
                                                          refine J.iald8 (κ := 39) hx rfl rfl rfl (x32.mv (jN_old (jbb_ext.mv (x23.mv (jbn_old (jbb_ext.mv (x9.mv (jbn_old b0)))))))).1 dL_law_958 fun v430 => ?_
                                                          refine J.ite (fun h434 => ?_) (fun _ => J.nne)
                                                          refine J.calli hx (fun r z1 z => j_callV (κ := 0) hx rfl rfl (x32.mv (jN_old (jbb_ext.mv (x23.mv (jbn_old (jbb_own (S := jSX1 B8) (x9.mvh jbn_alh).1 jSX1_o)))))).1 (mt_X1_log (x32.mv (jN_old (jbb_ext.mv (x23.mv (jbn_old (jbb_own (S := jSX1 B8) (x9.mvh jbn_alh).1 jSX1_o)))))) z) (lw_V q1199 q1200 q1201 q120 q1202) hd_X1_log rfl ⟨Nat.le_of_ble_eq_true rfl, Nat.le_of_ble_eq_true rfl⟩ (Nat.le_of_ble_eq_true rfl) dL_law_959) ⟨⟨rfl, rfl⟩, h434.1, h434.2⟩ fun v431 w432 e433 => ?_
                                                          refine J.aload_n hx dL_law_962 rfl 2 rfl ?_
                                                          refine J.aload_n hx dL_law_963 rfl 0 rfl ?_
                                                          refine J.iload hx dL_law_964 4 rfl ?_
                                                          refine J.iconst (v := 1) hx dL_law_966 (by decide) ?_
                                                          refine J.iadd hx dL_law_967 ?_
                                                          refine J.iald8 (κ := 39) hx rfl rfl rfl (x32.mv (jN_old (jbb_ext.mv (x23.mv (jbn_old (jbb_ext.mv (x9.mv (jbn_old b0)))))))).1 dL_law_968 fun v436 => ?_
                                                          refine J.aload_n hx dL_law_969 rfl 0 rfl ?_
                                                          refine J.iload hx dL_law_970 4 rfl ?_
                                                          refine J.iconst (v := 2) hx dL_law_972 (by decide) ?_
                                                          refine J.iadd hx dL_law_973 ?_
                                                          refine J.iald8 (κ := 39) hx rfl rfl rfl (x32.mv (jN_old (jbb_ext.mv (x23.mv (jbn_old (jbb_ext.mv (x9.mv (jbn_old b0)))))))).1 dL_law_974 fun v438 => ?_
                                                          refine J.ite (fun h442 => ?_) (fun _ => J.nne)
                                                          refine J.calli hx (fun r z1 z => j_callV (κ := 1) hx rfl rfl (x32.mv (jN_old (jbb_own (S := jSX9 B22) (x23.mvh jbn_alh).1 jSX9_o))).1 (mt_X9_log (x32.mv (jN_old (jbb_own (S := jSX9 B22) (x23.mvh jbn_alh).1 jSX9_o))) z) (lw_V q2135 q2136 q2137 q129 q2138) hd_X9_log rfl ⟨Nat.le_of_ble_eq_true rfl, Nat.le_of_ble_eq_true rfl⟩ (Nat.le_of_ble_eq_true rfl) dL_law_975) ⟨⟨rfl, rfl⟩, h442.1, h442.2⟩ fun v439 w440 e441 => ?_
                                                          refine J.icmp_eq (tgt := 1445) hx dL_law_978 (by decide) ?_ ?_
                                                          · exact J.sub [0, 1, 2, 3, 4] rfl (hK1445 c33 c34 B31 j_ext.rf w440)
                                                          · refine J.iconst (v := 0) hx dL_law_981 (by decide) ?_
                                                            refine J.ite (fun h443 => ?_) (fun _ => J.nne)
                                                            exact J.retL hx harg hsz h443.1 h443.2 dL_law_982
                                                        · refine J.ite (fun e24 => ?_) (fun n24 => ?_)
                                                          · refine J.tsw (off := 943) (tgt := 983) hx dL_law_40 (by rw [e24]; decide) (by rw [e24]; decide) (by rw [e24]; rfl) (by decide) ?_
                                                            refine J.aload_n hx dL_law_983 rfl 1 rfl ?_
                                                            refine J.aload_n hx dL_law_984 rfl 0 rfl ?_
                                                            refine J.iload hx dL_law_985 4 rfl ?_
                                                            refine J.iconst (v := 1) hx dL_law_987 (by decide) ?_
                                                            refine J.iadd hx dL_law_988 ?_
                                                            refine J.iald8 (κ := 39) hx rfl rfl rfl (x32.mv (jN_old (jbb_ext.mv (x23.mv (jbn_old (jbb_ext.mv (x9.mv (jbn_old b0)))))))).1 dL_law_989 fun v445 => ?_
                                                            refine J.ite (fun h449 => ?_) (fun _ => J.nne)
                                                            refine J.calli hx (fun r z1 z => j_callV (κ := 0) hx rfl rfl (x32.mv (jN_old (jbb_ext.mv (x23.mv (jbn_old (jbb_own (S := jSX1 B8) (x9.mvh jbn_alh).1 jSX1_o)))))).1 (mt_X1_noiseFor (x32.mv (jN_old (jbb_ext.mv (x23.mv (jbn_old (jbb_own (S := jSX1 B8) (x9.mvh jbn_alh).1 jSX1_o)))))) z) (lw_V q1304 q1305 q1306 q120 q1307) hd_X1_noiseFor rfl ⟨Nat.le_of_ble_eq_true rfl, Nat.le_of_ble_eq_true rfl⟩ (Nat.le_of_ble_eq_true rfl) dL_law_990) ⟨⟨rfl, rfl⟩, h449.1, h449.2⟩ fun v446 w447 e448 => ?_
                                                            refine J.aload_n hx dL_law_993 rfl 2 rfl ?_
                                                            refine J.aload_n hx dL_law_994 rfl 0 rfl ?_
                                                            refine J.iload hx dL_law_995 4 rfl ?_
                                                            refine J.iconst (v := 1) hx dL_law_997 (by decide) ?_
                                                            refine J.iadd hx dL_law_998 ?_
                                                            refine J.iald8 (κ := 39) hx rfl rfl rfl (x32.mv (jN_old (jbb_ext.mv (x23.mv (jbn_old (jbb_ext.mv (x9.mv (jbn_old b0)))))))).1 dL_law_999 fun v451 => ?_
                                                            refine J.ite (fun h455 => ?_) (fun _ => J.nne)
                                                            refine J.calli hx (fun r z1 z => j_callV (κ := 1) hx rfl rfl (x32.mv (jN_old (jbb_own (S := jSX9 B22) (x23.mvh jbn_alh).1 jSX9_o))).1 (mt_X9_noiseFor (x32.mv (jN_old (jbb_own (S := jSX9 B22) (x23.mvh jbn_alh).1 jSX9_o))) z) (lw_V q2215 q2216 q2217 q129 q2218) hd_X9_noiseFor rfl ⟨Nat.le_of_ble_eq_true rfl, Nat.le_of_ble_eq_true rfl⟩ (Nat.le_of_ble_eq_true rfl) dL_law_1000) ⟨⟨rfl, rfl⟩, h455.1, h455.2⟩ fun v452 w453 e454 => ?_
                                                            refine J.icmp_eq (tgt := 1445) hx dL_law_1003 (by decide) ?_ ?_
                                                            · exact J.sub [0, 1, 2, 3, 4] rfl (hK1445 c33 c34 B31 j_ext.rf w453)
                                                            · refine J.iconst (v := 0) hx dL_law_1006 (by decide) ?_
                                                              refine J.ite (fun h456 => ?_) (fun _ => J.nne)
                                                              exact J.retL hx harg hsz h456.1 h456.2 dL_law_1007
                                                          · refine J.ite (fun e25 => ?_) (fun n25 => ?_)
                                                            · refine J.tsw (off := 968) (tgt := 1008) hx dL_law_40 (by rw [e25]; decide) (by rw [e25]; decide) (by rw [e25]; rfl) (by decide) ?_
                                                              refine J.aload_n hx dL_law_1008 rfl 1 rfl ?_
                                                              refine J.aload_n hx dL_law_1009 rfl 0 rfl ?_
                                                              refine J.iload hx dL_law_1010 4 rfl ?_
                                                              refine J.iconst (v := 1) hx dL_law_1012 (by decide) ?_
                                                              refine J.iadd hx dL_law_1013 ?_
                                                              refine J.iald8 (κ := 39) hx rfl rfl rfl (x32.mv (jN_old (jbb_ext.mv (x23.mv (jbn_old (jbb_ext.mv (x9.mv (jbn_old b0)))))))).1 dL_law_1014 fun v458 => ?_
                                                              refine J.ite (fun h462 => ?_) (fun _ => J.nne)
                                                              refine J.calli hx (fun r z1 z => j_callV (κ := 0) hx rfl rfl (x32.mv (jN_old (jbb_ext.mv (x23.mv (jbn_old (jbb_own (S := jSX1 B8) (x9.mvh jbn_alh).1 jSX1_o)))))).1 (mt_X1_pieces (x32.mv (jN_old (jbb_ext.mv (x23.mv (jbn_old (jbb_own (S := jSX1 B8) (x9.mvh jbn_alh).1 jSX1_o)))))) z) (lw_V q1310 q1311 q1312 q120 q1313) hd_X1_pieces rfl ⟨Nat.le_of_ble_eq_true rfl, Nat.le_of_ble_eq_true rfl⟩ (Nat.le_of_ble_eq_true rfl) dL_law_1015) ⟨⟨rfl, rfl⟩, h462.1, h462.2⟩ fun v459 w460 e461 => ?_
                                                              refine J.aload_n hx dL_law_1018 rfl 2 rfl ?_
                                                              refine J.aload_n hx dL_law_1019 rfl 0 rfl ?_
                                                              refine J.iload hx dL_law_1020 4 rfl ?_
                                                              refine J.iconst (v := 1) hx dL_law_1022 (by decide) ?_
                                                              refine J.iadd hx dL_law_1023 ?_
                                                              refine J.iald8 (κ := 39) hx rfl rfl rfl (x32.mv (jN_old (jbb_ext.mv (x23.mv (jbn_old (jbb_ext.mv (x9.mv (jbn_old b0)))))))).1 dL_law_1024 fun v464 => ?_
                                                              refine J.ite (fun h468 => ?_) (fun _ => J.nne)
                                                              refine J.calli hx (fun r z1 z => j_callV (κ := 1) hx rfl rfl (x32.mv (jN_old (jbb_own (S := jSX9 B22) (x23.mvh jbn_alh).1 jSX9_o))).1 (mt_X9_pieces (x32.mv (jN_old (jbb_own (S := jSX9 B22) (x23.mvh jbn_alh).1 jSX9_o))) z) (lw_V q2219 q2220 q2221 q129 q2222) hd_X9_pieces rfl ⟨Nat.le_of_ble_eq_true rfl, Nat.le_of_ble_eq_true rfl⟩ (Nat.le_of_ble_eq_true rfl) dL_law_1025) ⟨⟨rfl, rfl⟩, h468.1, h468.2⟩ fun v465 w466 e467 => ?_
                                                              refine J.icmp_eq (tgt := 1445) hx dL_law_1028 (by decide) ?_ ?_
                                                              · exact J.sub [0, 1, 2, 3, 4] rfl (hK1445 c33 c34 B31 j_ext.rf w466)
                                                              · refine J.iconst (v := 0) hx dL_law_1031 (by decide) ?_
                                                                refine J.ite (fun h469 => ?_) (fun _ => J.nne)
                                                                exact J.retL hx harg hsz h469.1 h469.2 dL_law_1032
                                                            · refine J.ite (fun e26 => ?_) (fun n26 => ?_)
                                                              · refine J.tsw (off := 993) (tgt := 1033) hx dL_law_40 (by rw [e26]; decide) (by rw [e26]; decide) (by rw [e26]; rfl) (by decide) ?_
                                                                refine J.aload_n hx dL_law_1033 rfl 1 rfl ?_
                                                                refine J.aload_n hx dL_law_1034 rfl 0 rfl ?_
                                                                refine J.iload hx dL_law_1035 4 rfl ?_
                                                                refine J.iconst (v := 1) hx dL_law_1037 (by decide) ?_
                                                                refine J.iadd hx dL_law_1038 ?_
                                                                refine J.iald8 (κ := 39) hx rfl rfl rfl (x32.mv (jN_old (jbb_ext.mv (x23.mv (jbn_old (jbb_ext.mv (x9.mv (jbn_old b0)))))))).1 dL_law_1039 fun v471 => ?_
                                                                refine J.ite (fun h475 => ?_) (fun _ => J.nne)
                                                                refine J.calli hx (fun r z1 z => j_callV (κ := 0) hx rfl rfl (x32.mv (jN_old (jbb_ext.mv (x23.mv (jbn_old (jbb_own (S := jSX1 B8) (x9.mvh jbn_alh).1 jSX1_o)))))).1 (mt_X1_room (x32.mv (jN_old (jbb_ext.mv (x23.mv (jbn_old (jbb_own (S := jSX1 B8) (x9.mvh jbn_alh).1 jSX1_o)))))) z) (lw_V q1315 q1316 q1317 q120 q1318) hd_X1_room rfl ⟨Nat.le_of_ble_eq_true rfl, Nat.le_of_ble_eq_true rfl⟩ (Nat.le_of_ble_eq_true rfl) dL_law_1040) ⟨⟨rfl, rfl⟩, h475.1, h475.2⟩ fun v472 w473 e474 => ?_
                                                                refine J.aload_n hx dL_law_1043 rfl 2 rfl ?_
                                                                refine J.aload_n hx dL_law_1044 rfl 0 rfl ?_
                                                                refine J.iload hx dL_law_1045 4 rfl ?_
                                                                refine J.iconst (v := 1) hx dL_law_1047 (by decide) ?_
                                                                refine J.iadd hx dL_law_1048 ?_
                                                                refine J.iald8 (κ := 39) hx rfl rfl rfl (x32.mv (jN_old (jbb_ext.mv (x23.mv (jbn_old (jbb_ext.mv (x9.mv (jbn_old b0)))))))).1 dL_law_1049 fun v477 => ?_
                                                                refine J.ite (fun h481 => ?_) (fun _ => J.nne)
                                                                refine J.calli hx (fun r z1 z => j_callV (κ := 1) hx rfl rfl (x32.mv (jN_old (jbb_own (S := jSX9 B22) (x23.mvh jbn_alh).1 jSX9_o))).1 (mt_X9_room (x32.mv (jN_old (jbb_own (S := jSX9 B22) (x23.mvh jbn_alh).1 jSX9_o))) z) (lw_V q2223 q2224 q2225 q129 q2226) hd_X9_room rfl ⟨Nat.le_of_ble_eq_true rfl, Nat.le_of_ble_eq_true rfl⟩ (Nat.le_of_ble_eq_true rfl) dL_law_1050) ⟨⟨rfl, rfl⟩, h481.1, h481.2⟩ fun v478 w479 e480 => ?_
                                                                refine J.icmp_eq (tgt := 1445) hx dL_law_1053 (by decide) ?_ ?_
                                                                · exact J.sub [0, 1, 2, 3, 4] rfl (hK1445 c33 c34 B31 j_ext.rf w479)
                                                                · refine J.iconst (v := 0) hx dL_law_1056 (by decide) ?_
                                                                  refine J.ite (fun h482 => ?_) (fun _ => J.nne)
                                                                  exact J.retL hx harg hsz h482.1 h482.2 dL_law_1057
                                                              · refine J.ite (fun e27 => ?_) (fun n27 => ?_)
                                                                · refine J.tsw (off := 1018) (tgt := 1058) hx dL_law_40 (by rw [e27]; decide) (by rw [e27]; decide) (by rw [e27]; rfl) (by decide) ?_
                                                                  refine J.aload_n hx dL_law_1058 rfl 1 rfl ?_
                                                                  refine J.ite (fun h486 => ?_) (fun _ => J.nne)
                                                                  refine J.calli hx (fun r z1 z => j_callV (κ := 0) hx rfl rfl (x32.mv (jN_old (jbb_ext.mv (x23.mv (jbn_old (jbb_own (S := jSX1 B8) (x9.mvh jbn_alh).1 jSX1_o)))))).1 (mt_X1_unlike (x32.mv (jN_old (jbb_ext.mv (x23.mv (jbn_old (jbb_own (S := jSX1 B8) (x9.mvh jbn_alh).1 jSX1_o)))))) z) (lw_V q1320 q1321 q1322 q120 q1323) hd_X1_unlike rfl ⟨Nat.le_of_ble_eq_true rfl, Nat.le_of_ble_eq_true rfl⟩ (Nat.le_of_ble_eq_true rfl) dL_law_1059) ⟨⟨rfl, rfl⟩, h486.1, h486.2⟩ fun v483 w484 e485 => ?_
                                                                  refine J.aload_n hx dL_law_1062 rfl 2 rfl ?_
                                                                  refine J.ite (fun h490 => ?_) (fun _ => J.nne)
                                                                  refine J.calli hx (fun r z1 z => j_callV (κ := 1) hx rfl rfl (x32.mv (jN_old (jbb_own (S := jSX9 B22) (x23.mvh jbn_alh).1 jSX9_o))).1 (mt_X9_unlike (x32.mv (jN_old (jbb_own (S := jSX9 B22) (x23.mvh jbn_alh).1 jSX9_o))) z) (lw_V q2239 q2240 q2241 q129 q2242) hd_X9_unlike rfl ⟨Nat.le_of_ble_eq_true rfl, Nat.le_of_ble_eq_true rfl⟩ (Nat.le_of_ble_eq_true rfl) dL_law_1063) ⟨⟨rfl, rfl⟩, h490.1, h490.2⟩ fun v487 w488 e489 => ?_
                                                                  refine J.icmp_eq (tgt := 1445) hx dL_law_1066 (by decide) ?_ ?_
                                                                  · exact J.sub [0, 1, 2, 3, 4] rfl (hK1445 c33 c34 B31 j_ext.rf w488)
                                                                  · refine J.iconst (v := 0) hx dL_law_1069 (by decide) ?_
                                                                    refine J.ite (fun h491 => ?_) (fun _ => J.nne)
                                                                    exact J.retL hx harg hsz h491.1 h491.2 dL_law_1070
                                                                · refine J.ite (fun e28 => ?_) (fun n28 => ?_)
                                                                  · refine J.tsw (off := 1031) (tgt := 1071) hx dL_law_40 (by rw [e28]; decide) (by rw [e28]; decide) (by rw [e28]; rfl) (by decide) ?_
                                                                    refine J.aload_n hx dL_law_1071 rfl 1 rfl ?_
                                                                    refine J.aload_n hx dL_law_1072 rfl 0 rfl ?_
                                                                    refine J.iload hx dL_law_1073 4 rfl ?_
                                                                    refine J.iconst (v := 1) hx dL_law_1075 (by decide) ?_
                                                                    refine J.iadd hx dL_law_1076 ?_
                                                                    refine J.iald8 (κ := 39) hx rfl rfl rfl (x32.mv (jN_old (jbb_ext.mv (x23.mv (jbn_old (jbb_ext.mv (x9.mv (jbn_old b0)))))))).1 dL_law_1077 fun v493 => ?_
                                                                    refine J.ite (fun h497 => ?_) (fun _ => J.nne)
                                                                    refine J.calli hx (fun r z1 z => j_callV (κ := 0) hx rfl rfl (x32.mv (jN_old (jbb_ext.mv (x23.mv (jbn_old (jbb_own (S := jSX1 B8) (x9.mvh jbn_alh).1 jSX1_o)))))).1 (mt_X1_shift (x32.mv (jN_old (jbb_ext.mv (x23.mv (jbn_old (jbb_own (S := jSX1 B8) (x9.mvh jbn_alh).1 jSX1_o)))))) z) (lw_V q1328 q1329 q1330 q120 q1331) hd_X1_shift rfl ⟨Nat.le_of_ble_eq_true rfl, Nat.le_of_ble_eq_true rfl⟩ (Nat.le_of_ble_eq_true rfl) dL_law_1078) ⟨⟨rfl, rfl⟩, h497.1, h497.2⟩ fun v494 w495 e496 => ?_
                                                                    refine J.aload_n hx dL_law_1081 rfl 2 rfl ?_
                                                                    refine J.aload_n hx dL_law_1082 rfl 0 rfl ?_
                                                                    refine J.iload hx dL_law_1083 4 rfl ?_
                                                                    refine J.iconst (v := 1) hx dL_law_1085 (by decide) ?_
                                                                    refine J.iadd hx dL_law_1086 ?_
                                                                    refine J.iald8 (κ := 39) hx rfl rfl rfl (x32.mv (jN_old (jbb_ext.mv (x23.mv (jbn_old (jbb_ext.mv (x9.mv (jbn_old b0)))))))).1 dL_law_1087 fun v499 => ?_
                                                                    refine J.ite (fun h503 => ?_) (fun _ => J.nne)
                                                                    refine J.calli hx (fun r z1 z => j_callV (κ := 1) hx rfl rfl (x32.mv (jN_old (jbb_own (S := jSX9 B22) (x23.mvh jbn_alh).1 jSX9_o))).1 (mt_X9_shift (x32.mv (jN_old (jbb_own (S := jSX9 B22) (x23.mvh jbn_alh).1 jSX9_o))) z) (lw_V q2251 q2252 q2253 q129 q2254) hd_X9_shift rfl ⟨Nat.le_of_ble_eq_true rfl, Nat.le_of_ble_eq_true rfl⟩ (Nat.le_of_ble_eq_true rfl) dL_law_1088) ⟨⟨rfl, rfl⟩, h503.1, h503.2⟩ fun v500 w501 e502 => ?_
                                                                    refine J.icmp_eq (tgt := 1445) hx dL_law_1091 (by decide) ?_ ?_
                                                                    · exact J.sub [0, 1, 2, 3, 4] rfl (hK1445 c33 c34 B31 j_ext.rf w501)
                                                                    · refine J.iconst (v := 0) hx dL_law_1094 (by decide) ?_
                                                                      refine J.ite (fun h504 => ?_) (fun _ => J.nne)
                                                                      exact J.retL hx harg hsz h504.1 h504.2 dL_law_1095
                                                                  · refine J.ite (fun e29 => ?_) (fun n29 => ?_)
                                                                    · refine J.tsw (off := 1056) (tgt := 1096) hx dL_law_40 (by rw [e29]; decide) (by rw [e29]; decide) (by rw [e29]; rfl) (by decide) ?_
                                                                      refine J.aload_n hx dL_law_1096 rfl 1 rfl ?_
                                                                      refine J.ite (fun h508 => ?_) (fun _ => J.nne)
                                                                      refine J.calli hx (fun r z1 z => j_callV (κ := 0) hx rfl rfl (x32.mv (jN_old (jbb_ext.mv (x23.mv (jbn_old (jbb_own (S := jSX1 B8) (x9.mvh jbn_alh).1 jSX1_o)))))).1 (mt_X1_missed (x32.mv (jN_old (jbb_ext.mv (x23.mv (jbn_old (jbb_own (S := jSX1 B8) (x9.mvh jbn_alh).1 jSX1_o)))))) z) (lw_V q1332 q1333 q1334 q120 q1335) hd_X1_missed rfl ⟨Nat.le_of_ble_eq_true rfl, Nat.le_of_ble_eq_true rfl⟩ (Nat.le_of_ble_eq_true rfl) dL_law_1097) ⟨⟨rfl, rfl⟩, h508.1, h508.2⟩ fun v505 w506 e507 => ?_
                                                                      refine J.aload_n hx dL_law_1100 rfl 2 rfl ?_
                                                                      refine J.ite (fun h512 => ?_) (fun _ => J.nne)
                                                                      refine J.calli hx (fun r z1 z => j_callV (κ := 1) hx rfl rfl (x32.mv (jN_old (jbb_own (S := jSX9 B22) (x23.mvh jbn_alh).1 jSX9_o))).1 (mt_X9_missed (x32.mv (jN_old (jbb_own (S := jSX9 B22) (x23.mvh jbn_alh).1 jSX9_o))) z) (lw_V q2255 q2256 q2257 q129 q2258) hd_X9_missed rfl ⟨Nat.le_of_ble_eq_true rfl, Nat.le_of_ble_eq_true rfl⟩ (Nat.le_of_ble_eq_true rfl) dL_law_1101) ⟨⟨rfl, rfl⟩, h512.1, h512.2⟩ fun v509 w510 e511 => ?_
                                                                      refine J.icmp_eq (tgt := 1445) hx dL_law_1104 (by decide) ?_ ?_
                                                                      · exact J.sub [0, 1, 2, 3, 4] rfl (hK1445 c33 c34 B31 j_ext.rf w510)
                                                                      · refine J.iconst (v := 0) hx dL_law_1107 (by decide) ?_
                                                                        refine J.ite (fun h513 => ?_) (fun _ => J.nne)
                                                                        exact J.retL hx harg hsz h513.1 h513.2 dL_law_1108
                                                                    · refine J.ite (fun e30 => ?_) (fun n30 => ?_)
                                                                      · refine J.tsw (off := 1069) (tgt := 1109) hx dL_law_40 (by rw [e30]; decide) (by rw [e30]; decide) (by rw [e30]; rfl) (by decide) ?_
                                                                        refine J.aload_n hx dL_law_1109 rfl 1 rfl ?_
                                                                        refine J.aload_n hx dL_law_1110 rfl 0 rfl ?_
                                                                        refine J.iload hx dL_law_1111 4 rfl ?_
                                                                        refine J.iconst (v := 1) hx dL_law_1113 (by decide) ?_
                                                                        refine J.iadd hx dL_law_1114 ?_
                                                                        refine J.iald8 (κ := 39) hx rfl rfl rfl (x32.mv (jN_old (jbb_ext.mv (x23.mv (jbn_old (jbb_ext.mv (x9.mv (jbn_old b0)))))))).1 dL_law_1115 fun v515 => ?_
                                                                        refine J.aload_n hx dL_law_1116 rfl 0 rfl ?_
                                                                        refine J.iload hx dL_law_1117 4 rfl ?_
                                                                        refine J.iconst (v := 2) hx dL_law_1119 (by decide) ?_
                                                                        refine J.iadd hx dL_law_1120 ?_
                                                                        refine J.iald8 (κ := 39) hx rfl rfl rfl (x32.mv (jN_old (jbb_ext.mv (x23.mv (jbn_old (jbb_ext.mv (x9.mv (jbn_old b0)))))))).1 dL_law_1121 fun v517 => ?_
                                                                        refine J.aload_n hx dL_law_1122 rfl 0 rfl ?_
                                                                        refine J.iload hx dL_law_1123 4 rfl ?_
                                                                        refine J.iconst (v := 3) hx dL_law_1125 (by decide) ?_
                                                                        refine J.iadd hx dL_law_1126 ?_
                                                                        refine J.iald8 (κ := 39) hx rfl rfl rfl (x32.mv (jN_old (jbb_ext.mv (x23.mv (jbn_old (jbb_ext.mv (x9.mv (jbn_old b0)))))))).1 dL_law_1127 fun v519 => ?_
                                                                        refine J.ite (fun h523 => ?_) (fun _ => J.nne)
                                                                        refine J.calli hx (fun r z1 z => j_callV (κ := 0) hx rfl rfl (x32.mv (jN_old (jbb_ext.mv (x23.mv (jbn_old (jbb_own (S := jSX1 B8) (x9.mvh jbn_alh).1 jSX1_o)))))).1 (mt_X1_would (x32.mv (jN_old (jbb_ext.mv (x23.mv (jbn_old (jbb_own (S := jSX1 B8) (x9.mvh jbn_alh).1 jSX1_o)))))) z) (lw_V q1340 q1341 q1342 q120 q1343) hd_X1_would rfl ⟨Nat.le_of_ble_eq_true rfl, Nat.le_of_ble_eq_true rfl⟩ (Nat.le_of_ble_eq_true rfl) dL_law_1128) ⟨⟨rfl, rfl⟩, h523.1, h523.2⟩ fun v520 w521 e522 => ?_
                                                                        refine J.aload_n hx dL_law_1131 rfl 2 rfl ?_
                                                                        refine J.aload_n hx dL_law_1132 rfl 0 rfl ?_
                                                                        refine J.iload hx dL_law_1133 4 rfl ?_
                                                                        refine J.iconst (v := 1) hx dL_law_1135 (by decide) ?_
                                                                        refine J.iadd hx dL_law_1136 ?_
                                                                        refine J.iald8 (κ := 39) hx rfl rfl rfl (x32.mv (jN_old (jbb_ext.mv (x23.mv (jbn_old (jbb_ext.mv (x9.mv (jbn_old b0)))))))).1 dL_law_1137 fun v525 => ?_
                                                                        refine J.aload_n hx dL_law_1138 rfl 0 rfl ?_
                                                                        refine J.iload hx dL_law_1139 4 rfl ?_
                                                                        refine J.iconst (v := 2) hx dL_law_1141 (by decide) ?_
                                                                        refine J.iadd hx dL_law_1142 ?_
                                                                        refine J.iald8 (κ := 39) hx rfl rfl rfl (x32.mv (jN_old (jbb_ext.mv (x23.mv (jbn_old (jbb_ext.mv (x9.mv (jbn_old b0)))))))).1 dL_law_1143 fun v527 => ?_
                                                                        refine J.aload_n hx dL_law_1144 rfl 0 rfl ?_
                                                                        refine J.iload hx dL_law_1145 4 rfl ?_
                                                                        refine J.iconst (v := 3) hx dL_law_1147 (by decide) ?_
                                                                        refine J.iadd hx dL_law_1148 ?_
                                                                        refine J.iald8 (κ := 39) hx rfl rfl rfl (x32.mv (jN_old (jbb_ext.mv (x23.mv (jbn_old (jbb_ext.mv (x9.mv (jbn_old b0)))))))).1 dL_law_1149 fun v529 => ?_
                                                                        refine J.ite (fun h533 => ?_) (fun _ => J.nne)
                                                                        refine J.calli hx (fun r z1 z => j_callV (κ := 1) hx rfl rfl (x32.mv (jN_old (jbb_own (S := jSX9 B22) (x23.mvh jbn_alh).1 jSX9_o))).1 (mt_X9_would (x32.mv (jN_old (jbb_own (S := jSX9 B22) (x23.mvh jbn_alh).1 jSX9_o))) z) (lw_V q2263 q2264 q2265 q129 q2266) hd_X9_would rfl ⟨Nat.le_of_ble_eq_true rfl, Nat.le_of_ble_eq_true rfl⟩ (Nat.le_of_ble_eq_true rfl) dL_law_1150) ⟨⟨rfl, rfl⟩, h533.1, h533.2⟩ fun v530 w531 e532 => ?_
                                                                        refine J.icmp_eq (tgt := 1445) hx dL_law_1153 (by decide) ?_ ?_
                                                                        · exact J.sub [0, 1, 2, 3, 4] rfl (hK1445 c33 c34 B31 j_ext.rf w531)
                                                                        · refine J.iconst (v := 0) hx dL_law_1156 (by decide) ?_
                                                                          refine J.ite (fun h534 => ?_) (fun _ => J.nne)
                                                                          exact J.retL hx harg hsz h534.1 h534.2 dL_law_1157
                                                                      · refine J.ite (fun e31 => ?_) (fun n31 => ?_)
                                                                        · refine J.tsw (off := 1118) (tgt := 1158) hx dL_law_40 (by rw [e31]; decide) (by rw [e31]; decide) (by rw [e31]; rfl) (by decide) ?_
                                                                          refine J.aload_n hx dL_law_1158 rfl 1 rfl ?_
                                                                          refine J.ite (fun h538 => ?_) (fun _ => J.nne)
                                                                          refine J.callAi hx (fun r z1 z => j_callA_of (j_runV (κ := 0) hx rfl rfl (x32.mv (jN_old (jbb_ext.mv (x23.mv (jbn_old (jbb_own (S := jSX1 B8) (x9.mvh jbn_alh).1 jSX1_o)))))).1 (mt_X1_solo (x32.mv (jN_old (jbb_ext.mv (x23.mv (jbn_old (jbb_own (S := jSX1 B8) (x9.mvh jbn_alh).1 jSX1_o)))))) z) (lw_V q1346 q1347 q1348 q120 q1349) hd_X1_solo rfl ⟨Nat.le_of_ble_eq_true rfl, Nat.le_of_ble_eq_true rfl⟩ (Nat.le_of_ble_eq_true rfl) dL_law_1159)) h538 fun v535 w536 B539 e537 x540 x541 => ?_
                                                                          refine J.cv (lv' := [(0, .ref (B539.1 39 i0)), (1, .ref (B539.1 0 0)), (2, .ref (B539.1 1 0)), (3, .ref (B539.1 38 0)), (4, .int v29)]) (st' := [.int v535]) (by first | rfl | (simp only [x540.ad (x32.mv (jN_old (jbb_ext.mv (x23.mv (jbn_old (jbb_ext.mv (x9.mv (jbn_old b0)))))))), x540.ad (x32.mv (jN_old (jbb_ext.mv (x23.mv (jbn_old (jbb_own (S := jSX1 B8) (x9.mvh jbn_alh).1 jSX1_o)))))), x540.ad (x32.mv (jN_old (jbb_own (S := jSX9 B22) (x23.mvh jbn_alh).1 jSX9_o))), x540.ad (x32.mv jN_al)]; done) | (simp only [x540.ad (x32.mv (jN_old (jbb_ext.mv (x23.mv (jbn_old (jbb_ext.mv (x9.mv (jbn_old b0)))))))), x540.ad (x32.mv (jN_old (jbb_ext.mv (x23.mv (jbn_old (jbb_own (S := jSX1 B8) (x9.mvh jbn_alh).1 jSX1_o)))))), x540.ad (x32.mv (jN_old (jbb_own (S := jSX9 B22) (x23.mvh jbn_alh).1 jSX9_o))), x540.ad (x32.mv jN_al)]; rfl)) (by first | rfl | (simp only [x540.ad (x32.mv (jN_old (jbb_ext.mv (x23.mv (jbn_old (jbb_ext.mv (x9.mv (jbn_old b0)))))))), x540.ad (x32.mv (jN_old (jbb_ext.mv (x23.mv (jbn_old (jbb_own (S := jSX1 B8) (x9.mvh jbn_alh).1 jSX1_o)))))), x540.ad (x32.mv (jN_old (jbb_own (S := jSX9 B22) (x23.mvh jbn_alh).1 jSX9_o))), x540.ad (x32.mv jN_al)]; done) | (simp only [x540.ad (x32.mv (jN_old (jbb_ext.mv (x23.mv (jbn_old (jbb_ext.mv (x9.mv (jbn_old b0)))))))), x540.ad (x32.mv (jN_old (jbb_ext.mv (x23.mv (jbn_old (jbb_own (S := jSX1 B8) (x9.mvh jbn_alh).1 jSX1_o)))))), x540.ad (x32.mv (jN_old (jbb_own (S := jSX9 B22) (x23.mvh jbn_alh).1 jSX9_o))), x540.ad (x32.mv jN_al)]; rfl)) ?_
                                                                          refine J.aload_n hx dL_law_1162 rfl 2 rfl ?_
                                                                          refine J.ite (fun h545 => ?_) (fun _ => J.nne)
                                                                          refine J.calli hx (fun r z1 z => j_callV (κ := 1) hx rfl rfl (x540.mv (x32.mv (jN_old (jbb_own (S := jSX9 B22) (x23.mvh jbn_alh).1 jSX9_o)))).1 (mt_X9_solo (x540.mv (x32.mv (jN_old (jbb_own (S := jSX9 B22) (x23.mvh jbn_alh).1 jSX9_o)))) z) (lw_V q2267 q2268 q2269 q129 q2270) hd_X9_solo rfl ⟨Nat.le_of_ble_eq_true rfl, Nat.le_of_ble_eq_true rfl⟩ (Nat.le_of_ble_eq_true rfl) dL_law_1163) ⟨⟨rfl, rfl⟩, h545.1, h545.2⟩ fun v542 w543 e544 => ?_
                                                                          refine J.icmp_eq (tgt := 1445) hx dL_law_1166 (by decide) ?_ ?_
                                                                          · exact J.sub [0, 1, 2, 3, 4] rfl (hK1445 (c33 + 1) (c34 + 2) B539 x540 w543)
                                                                          · refine J.iconst (v := 0) hx dL_law_1169 (by decide) ?_
                                                                            refine J.ite (fun h546 => ?_) (fun _ => J.nne)
                                                                            exact J.retL hx harg hsz h546.1 h546.2 dL_law_1170
                                                                        · refine J.ite (fun e32 => ?_) (fun n32 => ?_)
                                                                          · refine J.tsw (off := 1131) (tgt := 1171) hx dL_law_40 (by rw [e32]; decide) (by rw [e32]; decide) (by rw [e32]; rfl) (by decide) ?_
                                                                            refine J.aload_n hx dL_law_1171 rfl 1 rfl ?_
                                                                            refine J.aload_n hx dL_law_1172 rfl 0 rfl ?_
                                                                            refine J.iload hx dL_law_1173 4 rfl ?_
                                                                            refine J.iconst (v := 1) hx dL_law_1175 (by decide) ?_
                                                                            refine J.iadd hx dL_law_1176 ?_
                                                                            refine J.iald8 (κ := 39) hx rfl rfl rfl (x32.mv (jN_old (jbb_ext.mv (x23.mv (jbn_old (jbb_ext.mv (x9.mv (jbn_old b0)))))))).1 dL_law_1177 fun v548 => ?_
                                                                            refine J.ite (fun h552 => ?_) (fun _ => J.nne)
                                                                            refine J.callAi hx (fun r z1 z => j_callA_of (j_runV (κ := 0) hx rfl rfl (x32.mv (jN_old (jbb_ext.mv (x23.mv (jbn_old (jbb_own (S := jSX1 B8) (x9.mvh jbn_alh).1 jSX1_o)))))).1 (mt_X1_tallest (x32.mv (jN_old (jbb_ext.mv (x23.mv (jbn_old (jbb_own (S := jSX1 B8) (x9.mvh jbn_alh).1 jSX1_o)))))) z) (lw_V q1361 q1362 q1363 q120 q1364) hd_X1_tallest rfl ⟨Nat.le_of_ble_eq_true rfl, Nat.le_of_ble_eq_true rfl⟩ (Nat.le_of_ble_eq_true rfl) dL_law_1178)) h552 fun v549 w550 B553 e551 x554 x555 => ?_
                                                                            refine J.cv (lv' := [(0, .ref (B553.1 39 i0)), (1, .ref (B553.1 0 0)), (2, .ref (B553.1 1 0)), (3, .ref (B553.1 38 0)), (4, .int v29)]) (st' := [.int v549]) (by first | rfl | (simp only [x554.ad (x32.mv (jN_old (jbb_ext.mv (x23.mv (jbn_old (jbb_ext.mv (x9.mv (jbn_old b0)))))))), x554.ad (x32.mv (jN_old (jbb_ext.mv (x23.mv (jbn_old (jbb_own (S := jSX1 B8) (x9.mvh jbn_alh).1 jSX1_o)))))), x554.ad (x32.mv (jN_old (jbb_own (S := jSX9 B22) (x23.mvh jbn_alh).1 jSX9_o))), x554.ad (x32.mv jN_al)]; done) | (simp only [x554.ad (x32.mv (jN_old (jbb_ext.mv (x23.mv (jbn_old (jbb_ext.mv (x9.mv (jbn_old b0)))))))), x554.ad (x32.mv (jN_old (jbb_ext.mv (x23.mv (jbn_old (jbb_own (S := jSX1 B8) (x9.mvh jbn_alh).1 jSX1_o)))))), x554.ad (x32.mv (jN_old (jbb_own (S := jSX9 B22) (x23.mvh jbn_alh).1 jSX9_o))), x554.ad (x32.mv jN_al)]; rfl)) (by first | rfl | (simp only [x554.ad (x32.mv (jN_old (jbb_ext.mv (x23.mv (jbn_old (jbb_ext.mv (x9.mv (jbn_old b0)))))))), x554.ad (x32.mv (jN_old (jbb_ext.mv (x23.mv (jbn_old (jbb_own (S := jSX1 B8) (x9.mvh jbn_alh).1 jSX1_o)))))), x554.ad (x32.mv (jN_old (jbb_own (S := jSX9 B22) (x23.mvh jbn_alh).1 jSX9_o))), x554.ad (x32.mv jN_al)]; done) | (simp only [x554.ad (x32.mv (jN_old (jbb_ext.mv (x23.mv (jbn_old (jbb_ext.mv (x9.mv (jbn_old b0)))))))), x554.ad (x32.mv (jN_old (jbb_ext.mv (x23.mv (jbn_old (jbb_own (S := jSX1 B8) (x9.mvh jbn_alh).1 jSX1_o)))))), x554.ad (x32.mv (jN_old (jbb_own (S := jSX9 B22) (x23.mvh jbn_alh).1 jSX9_o))), x554.ad (x32.mv jN_al)]; rfl)) ?_
                                                                            refine J.aload_n hx dL_law_1181 rfl 2 rfl ?_
                                                                            refine J.aload_n hx dL_law_1182 rfl 0 rfl ?_
                                                                            refine J.iload hx dL_law_1183 4 rfl ?_
                                                                            refine J.iconst (v := 1) hx dL_law_1185 (by decide) ?_
                                                                            refine J.iadd hx dL_law_1186 ?_
                                                                            refine J.iald8 (κ := 39) hx rfl rfl rfl (x554.mv (x32.mv (jN_old (jbb_ext.mv (x23.mv (jbn_old (jbb_ext.mv (x9.mv (jbn_old b0))))))))).1 dL_law_1187 fun v557 => ?_
                                                                            refine J.ite (fun h561 => ?_) (fun _ => J.nne)
                                                                            refine J.calli hx (fun r z1 z => j_callV (κ := 1) hx rfl rfl (x554.mv (x32.mv (jN_old (jbb_own (S := jSX9 B22) (x23.mvh jbn_alh).1 jSX9_o)))).1 (mt_X9_tallest (x554.mv (x32.mv (jN_old (jbb_own (S := jSX9 B22) (x23.mvh jbn_alh).1 jSX9_o)))) z) (lw_V q2275 q2276 q2277 q129 q2278) hd_X9_tallest rfl ⟨Nat.le_of_ble_eq_true rfl, Nat.le_of_ble_eq_true rfl⟩ (Nat.le_of_ble_eq_true rfl) dL_law_1188) ⟨⟨rfl, rfl⟩, h561.1, h561.2⟩ fun v558 w559 e560 => ?_
                                                                            refine J.icmp_eq (tgt := 1445) hx dL_law_1191 (by decide) ?_ ?_
                                                                            · exact J.sub [0, 1, 2, 3, 4] rfl (hK1445 (c33 + 1) (c34 + 2) B553 x554 w559)
                                                                            · refine J.iconst (v := 0) hx dL_law_1194 (by decide) ?_
                                                                              refine J.ite (fun h562 => ?_) (fun _ => J.nne)
                                                                              exact J.retL hx harg hsz h562.1 h562.2 dL_law_1195
                                                                          · refine J.ite (fun e33 => ?_) (fun n33 => ?_)
                                                                            · refine J.tsw (off := 1156) (tgt := 1196) hx dL_law_40 (by rw [e33]; decide) (by rw [e33]; decide) (by rw [e33]; rfl) (by decide) ?_
                                                                              refine J.aload_n hx dL_law_1196 rfl 1 rfl ?_
                                                                              refine J.aload_n hx dL_law_1197 rfl 0 rfl ?_
                                                                              refine J.iload hx dL_law_1198 4 rfl ?_
                                                                              refine J.iconst (v := 1) hx dL_law_1200 (by decide) ?_
                                                                              refine J.iadd hx dL_law_1201 ?_
                                                                              refine J.iald8 (κ := 39) hx rfl rfl rfl (x32.mv (jN_old (jbb_ext.mv (x23.mv (jbn_old (jbb_ext.mv (x9.mv (jbn_old b0)))))))).1 dL_law_1202 fun v564 => ?_
                                                                              refine J.ite (fun h568 => ?_) (fun _ => J.nne)
                                                                              refine J.calli hx (fun r z1 z => j_callV (κ := 0) hx rfl rfl (x32.mv (jN_old (jbb_ext.mv (x23.mv (jbn_old (jbb_own (S := jSX1 B8) (x9.mvh jbn_alh).1 jSX1_o)))))).1 (mt_X1_change (x32.mv (jN_old (jbb_ext.mv (x23.mv (jbn_old (jbb_own (S := jSX1 B8) (x9.mvh jbn_alh).1 jSX1_o)))))) z) (lw_V q1372 q1373 q1374 q120 q1375) hd_X1_change rfl ⟨Nat.le_of_ble_eq_true rfl, Nat.le_of_ble_eq_true rfl⟩ (Nat.le_of_ble_eq_true rfl) dL_law_1203) ⟨⟨rfl, rfl⟩, h568.1, h568.2⟩ fun v565 w566 e567 => ?_
                                                                              refine J.aload_n hx dL_law_1206 rfl 2 rfl ?_
                                                                              refine J.aload_n hx dL_law_1207 rfl 0 rfl ?_
                                                                              refine J.iload hx dL_law_1208 4 rfl ?_
                                                                              refine J.iconst (v := 1) hx dL_law_1210 (by decide) ?_
                                                                              refine J.iadd hx dL_law_1211 ?_
                                                                              refine J.iald8 (κ := 39) hx rfl rfl rfl (x32.mv (jN_old (jbb_ext.mv (x23.mv (jbn_old (jbb_ext.mv (x9.mv (jbn_old b0)))))))).1 dL_law_1212 fun v570 => ?_
                                                                              refine J.ite (fun h574 => ?_) (fun _ => J.nne)
                                                                              refine J.calli hx (fun r z1 z => j_callV (κ := 1) hx rfl rfl (x32.mv (jN_old (jbb_own (S := jSX9 B22) (x23.mvh jbn_alh).1 jSX9_o))).1 (mt_X9_change (x32.mv (jN_old (jbb_own (S := jSX9 B22) (x23.mvh jbn_alh).1 jSX9_o))) z) (lw_V q2279 q2280 q2281 q129 q2282) hd_X9_change rfl ⟨Nat.le_of_ble_eq_true rfl, Nat.le_of_ble_eq_true rfl⟩ (Nat.le_of_ble_eq_true rfl) dL_law_1213) ⟨⟨rfl, rfl⟩, h574.1, h574.2⟩ fun v571 w572 e573 => ?_
                                                                              refine J.icmp_eq (tgt := 1445) hx dL_law_1216 (by decide) ?_ ?_
                                                                              · exact J.sub [0, 1, 2, 3, 4] rfl (hK1445 c33 c34 B31 j_ext.rf w572)
                                                                              · refine J.iconst (v := 0) hx dL_law_1219 (by decide) ?_
                                                                                refine J.ite (fun h575 => ?_) (fun _ => J.nne)
                                                                                exact J.retL hx harg hsz h575.1 h575.2 dL_law_1220
                                                                            · refine J.ite (fun e34 => ?_) (fun n34 => ?_)
                                                                              · refine J.tsw (off := 1181) (tgt := 1221) hx dL_law_40 (by rw [e34]; decide) (by rw [e34]; decide) (by rw [e34]; rfl) (by decide) ?_
                                                                                refine J.aload_n hx dL_law_1221 rfl 1 rfl ?_
                                                                                refine J.aload_n hx dL_law_1222 rfl 0 rfl ?_
                                                                                refine J.iload hx dL_law_1223 4 rfl ?_
                                                                                refine J.iconst (v := 1) hx dL_law_1225 (by decide) ?_
                                                                                refine J.iadd hx dL_law_1226 ?_
                                                                                refine J.iald8 (κ := 39) hx rfl rfl rfl (x32.mv (jN_old (jbb_ext.mv (x23.mv (jbn_old (jbb_ext.mv (x9.mv (jbn_old b0)))))))).1 dL_law_1227 fun v577 => ?_
                                                                                refine J.aload_n hx dL_law_1228 rfl 0 rfl ?_
                                                                                refine J.iload hx dL_law_1229 4 rfl ?_
                                                                                refine J.iconst (v := 2) hx dL_law_1231 (by decide) ?_
                                                                                refine J.iadd hx dL_law_1232 ?_
                                                                                refine J.iald8 (κ := 39) hx rfl rfl rfl (x32.mv (jN_old (jbb_ext.mv (x23.mv (jbn_old (jbb_ext.mv (x9.mv (jbn_old b0)))))))).1 dL_law_1233 fun v579 => ?_
                                                                                refine J.ite (fun h583 => ?_) (fun _ => J.nne)
                                                                                refine J.callAi hx (fun r z1 z => j_callA_of (j_runV (κ := 0) hx rfl rfl (x32.mv (jN_old (jbb_ext.mv (x23.mv (jbn_old (jbb_own (S := jSX1 B8) (x9.mvh jbn_alh).1 jSX1_o)))))).1 (mt_X1_spell (x32.mv (jN_old (jbb_ext.mv (x23.mv (jbn_old (jbb_own (S := jSX1 B8) (x9.mvh jbn_alh).1 jSX1_o)))))) (hL.mv ((((((((j_ext.rf.tr (jbn_ext f0_0)).tr x9).tr jbb_ext).tr (jbn_ext (jbb_no (x10.no (jbn_noK f1_0 (by decide)) (by simp))))).tr x23).tr jbb_ext).tr (jN_ext (jbb_no (x24.no (jbn_noK (jbb_no (x10.no (jbn_noK f38_0 (by decide)) (by simp))) (by decide)) (by simp))))).tr x32)) z) (lw_V q1376 q1377 q1378 q120 q1379) hd_X1_spell rfl ⟨Nat.le_of_ble_eq_true rfl, Nat.le_of_ble_eq_true rfl⟩ (Nat.le_of_ble_eq_true rfl) dL_law_1234)) h583 fun v580 w581 B584 e582 x585 x586 => ?_
                                                                                refine J.cv (lv' := [(0, .ref (B584.1 39 i0)), (1, .ref (B584.1 0 0)), (2, .ref (B584.1 1 0)), (3, .ref (B584.1 38 0)), (4, .int v29)]) (st' := [.int v580]) (by first | rfl | (simp only [x585.ad (x32.mv (jN_old (jbb_ext.mv (x23.mv (jbn_old (jbb_ext.mv (x9.mv (jbn_old b0)))))))), x585.ad (x32.mv (jN_old (jbb_ext.mv (x23.mv (jbn_old (jbb_own (S := jSX1 B8) (x9.mvh jbn_alh).1 jSX1_o)))))), x585.ad (x32.mv (jN_old (jbb_own (S := jSX9 B22) (x23.mvh jbn_alh).1 jSX9_o))), x585.ad (x32.mv jN_al)]; done) | (simp only [x585.ad (x32.mv (jN_old (jbb_ext.mv (x23.mv (jbn_old (jbb_ext.mv (x9.mv (jbn_old b0)))))))), x585.ad (x32.mv (jN_old (jbb_ext.mv (x23.mv (jbn_old (jbb_own (S := jSX1 B8) (x9.mvh jbn_alh).1 jSX1_o)))))), x585.ad (x32.mv (jN_old (jbb_own (S := jSX9 B22) (x23.mvh jbn_alh).1 jSX9_o))), x585.ad (x32.mv jN_al)]; rfl)) (by first | rfl | (simp only [x585.ad (x32.mv (jN_old (jbb_ext.mv (x23.mv (jbn_old (jbb_ext.mv (x9.mv (jbn_old b0)))))))), x585.ad (x32.mv (jN_old (jbb_ext.mv (x23.mv (jbn_old (jbb_own (S := jSX1 B8) (x9.mvh jbn_alh).1 jSX1_o)))))), x585.ad (x32.mv (jN_old (jbb_own (S := jSX9 B22) (x23.mvh jbn_alh).1 jSX9_o))), x585.ad (x32.mv jN_al)]; done) | (simp only [x585.ad (x32.mv (jN_old (jbb_ext.mv (x23.mv (jbn_old (jbb_ext.mv (x9.mv (jbn_old b0)))))))), x585.ad (x32.mv (jN_old (jbb_ext.mv (x23.mv (jbn_old (jbb_own (S := jSX1 B8) (x9.mvh jbn_alh).1 jSX1_o)))))), x585.ad (x32.mv (jN_old (jbb_own (S := jSX9 B22) (x23.mvh jbn_alh).1 jSX9_o))), x585.ad (x32.mv jN_al)]; rfl)) ?_
                                                                                refine J.aload_n hx dL_law_1237 rfl 2 rfl ?_
                                                                                refine J.aload_n hx dL_law_1238 rfl 0 rfl ?_
                                                                                refine J.iload hx dL_law_1239 4 rfl ?_
                                                                                refine J.iconst (v := 1) hx dL_law_1241 (by decide) ?_
                                                                                refine J.iadd hx dL_law_1242 ?_
                                                                                refine J.iald8 (κ := 39) hx rfl rfl rfl (x585.mv (x32.mv (jN_old (jbb_ext.mv (x23.mv (jbn_old (jbb_ext.mv (x9.mv (jbn_old b0))))))))).1 dL_law_1243 fun v588 => ?_
                                                                                refine J.aload_n hx dL_law_1244 rfl 0 rfl ?_
                                                                                refine J.iload hx dL_law_1245 4 rfl ?_
                                                                                refine J.iconst (v := 2) hx dL_law_1247 (by decide) ?_
                                                                                refine J.iadd hx dL_law_1248 ?_
                                                                                refine J.iald8 (κ := 39) hx rfl rfl rfl (x585.mv (x32.mv (jN_old (jbb_ext.mv (x23.mv (jbn_old (jbb_ext.mv (x9.mv (jbn_old b0))))))))).1 dL_law_1249 fun v590 => ?_
                                                                                refine J.ite (fun h594 => ?_) (fun _ => J.nne)
                                                                                refine J.calli hx (fun r z1 z => j_callV (κ := 1) hx rfl rfl (x585.mv (x32.mv (jN_old (jbb_own (S := jSX9 B22) (x23.mvh jbn_alh).1 jSX9_o)))).1 (mt_X9_spell (x585.mv (x32.mv (jN_old (jbb_own (S := jSX9 B22) (x23.mvh jbn_alh).1 jSX9_o)))) z) (lw_V q2284 q2285 q2286 q129 q2287) hd_X9_spell rfl ⟨Nat.le_of_ble_eq_true rfl, Nat.le_of_ble_eq_true rfl⟩ (Nat.le_of_ble_eq_true rfl) dL_law_1250) ⟨⟨rfl, rfl⟩, h594.1, h594.2⟩ fun v591 w592 e593 => ?_
                                                                                refine J.icmp_eq (tgt := 1445) hx dL_law_1253 (by decide) ?_ ?_
                                                                                · exact J.sub [0, 1, 2, 3, 4] rfl (hK1445 (c33 + 20) (c34 + 8000) B584 x585 w592)
                                                                                · refine J.iconst (v := 0) hx dL_law_1256 (by decide) ?_
                                                                                  refine J.ite (fun h595 => ?_) (fun _ => J.nne)
                                                                                  exact J.retL hx harg hsz h595.1 h595.2 dL_law_1257
                                                                              · refine J.ite (fun e35 => ?_) (fun n35 => ?_)
                                                                                · refine J.tsw (off := 1218) (tgt := 1258) hx dL_law_40 (by rw [e35]; decide) (by rw [e35]; decide) (by rw [e35]; rfl) (by decide) ?_
                                                                                  refine J.aload_n hx dL_law_1258 rfl 1 rfl ?_
                                                                                  refine J.aload_n hx dL_law_1259 rfl 0 rfl ?_
                                                                                  refine J.iload hx dL_law_1260 4 rfl ?_
                                                                                  refine J.iconst (v := 1) hx dL_law_1262 (by decide) ?_
                                                                                  refine J.iadd hx dL_law_1263 ?_
                                                                                  refine J.iald8 (κ := 39) hx rfl rfl rfl (x32.mv (jN_old (jbb_ext.mv (x23.mv (jbn_old (jbb_ext.mv (x9.mv (jbn_old b0)))))))).1 dL_law_1264 fun v597 => ?_
                                                                                  refine J.aload_n hx dL_law_1265 rfl 0 rfl ?_
                                                                                  refine J.iload hx dL_law_1266 4 rfl ?_
                                                                                  refine J.iconst (v := 2) hx dL_law_1268 (by decide) ?_
                                                                                  refine J.iadd hx dL_law_1269 ?_
                                                                                  refine J.iald8 (κ := 39) hx rfl rfl rfl (x32.mv (jN_old (jbb_ext.mv (x23.mv (jbn_old (jbb_ext.mv (x9.mv (jbn_old b0)))))))).1 dL_law_1270 fun v599 => ?_
                                                                                  refine J.aload_n hx dL_law_1271 rfl 0 rfl ?_
                                                                                  refine J.iload hx dL_law_1272 4 rfl ?_
                                                                                  refine J.iconst (v := 3) hx dL_law_1274 (by decide) ?_
                                                                                  refine J.iadd hx dL_law_1275 ?_
                                                                                  refine J.iald8 (κ := 39) hx rfl rfl rfl (x32.mv (jN_old (jbb_ext.mv (x23.mv (jbn_old (jbb_ext.mv (x9.mv (jbn_old b0)))))))).1 dL_law_1276 fun v601 => ?_
                                                                                  refine J.ite (fun h605 => ?_) (fun _ => J.nne)
                                                                                  refine J.calli hx (fun r z1 z => j_callV (κ := 0) hx rfl rfl (x32.mv (jN_old (jbb_ext.mv (x23.mv (jbn_old (jbb_own (S := jSX1 B8) (x9.mvh jbn_alh).1 jSX1_o)))))).1 (mt_X1_step (x32.mv (jN_old (jbb_ext.mv (x23.mv (jbn_old (jbb_own (S := jSX1 B8) (x9.mvh jbn_alh).1 jSX1_o)))))) z) (lw_V q1554 q1555 q1556 q120 q1557) hd_X1_step rfl ⟨Nat.le_of_ble_eq_true rfl, Nat.le_of_ble_eq_true rfl⟩ (Nat.le_of_ble_eq_true rfl) dL_law_1277) ⟨⟨rfl, rfl⟩, h605.1, h605.2⟩ fun v602 w603 e604 => ?_
                                                                                  refine J.aload_n hx dL_law_1280 rfl 2 rfl ?_
                                                                                  refine J.aload_n hx dL_law_1281 rfl 0 rfl ?_
                                                                                  refine J.iload hx dL_law_1282 4 rfl ?_
                                                                                  refine J.iconst (v := 1) hx dL_law_1284 (by decide) ?_
                                                                                  refine J.iadd hx dL_law_1285 ?_
                                                                                  refine J.iald8 (κ := 39) hx rfl rfl rfl (x32.mv (jN_old (jbb_ext.mv (x23.mv (jbn_old (jbb_ext.mv (x9.mv (jbn_old b0)))))))).1 dL_law_1286 fun v607 => ?_
                                                                                  refine J.aload_n hx dL_law_1287 rfl 0 rfl ?_
                                                                                  refine J.iload hx dL_law_1288 4 rfl ?_
                                                                                  refine J.iconst (v := 2) hx dL_law_1290 (by decide) ?_
                                                                                  refine J.iadd hx dL_law_1291 ?_
                                                                                  refine J.iald8 (κ := 39) hx rfl rfl rfl (x32.mv (jN_old (jbb_ext.mv (x23.mv (jbn_old (jbb_ext.mv (x9.mv (jbn_old b0)))))))).1 dL_law_1292 fun v609 => ?_
                                                                                  refine J.aload_n hx dL_law_1293 rfl 0 rfl ?_
                                                                                  refine J.iload hx dL_law_1294 4 rfl ?_
                                                                                  refine J.iconst (v := 3) hx dL_law_1296 (by decide) ?_
                                                                                  refine J.iadd hx dL_law_1297 ?_
                                                                                  refine J.iald8 (κ := 39) hx rfl rfl rfl (x32.mv (jN_old (jbb_ext.mv (x23.mv (jbn_old (jbb_ext.mv (x9.mv (jbn_old b0)))))))).1 dL_law_1298 fun v611 => ?_
                                                                                  refine J.ite (fun h615 => ?_) (fun _ => J.nne)
                                                                                  refine J.calli hx (fun r z1 z => j_callV (κ := 1) hx rfl rfl (x32.mv (jN_old (jbb_own (S := jSX9 B22) (x23.mvh jbn_alh).1 jSX9_o))).1 (mt_X9_step (x32.mv (jN_old (jbb_own (S := jSX9 B22) (x23.mvh jbn_alh).1 jSX9_o))) z) (lw_V q2300 q2301 q2302 q129 q2303) hd_X9_step rfl ⟨Nat.le_of_ble_eq_true rfl, Nat.le_of_ble_eq_true rfl⟩ (Nat.le_of_ble_eq_true rfl) dL_law_1299) ⟨⟨rfl, rfl⟩, h615.1, h615.2⟩ fun v612 w613 e614 => ?_
                                                                                  refine J.icmp_eq (tgt := 1445) hx dL_law_1302 (by decide) ?_ ?_
                                                                                  · exact J.sub [0, 1, 2, 3, 4] rfl (hK1445 c33 c34 B31 j_ext.rf w613)
                                                                                  · refine J.iconst (v := 0) hx dL_law_1305 (by decide) ?_
                                                                                    refine J.ite (fun h616 => ?_) (fun _ => J.nne)
                                                                                    exact J.retL hx harg hsz h616.1 h616.2 dL_law_1306
                                                                                · refine J.ite (fun e36 => ?_) (fun n36 => ?_)
                                                                                  · refine J.tsw (off := 1267) (tgt := 1307) hx dL_law_40 (by rw [e36]; decide) (by rw [e36]; decide) (by rw [e36]; rfl) (by decide) ?_
                                                                                    refine J.aload_n hx dL_law_1307 rfl 1 rfl ?_
                                                                                    refine J.aload_n hx dL_law_1308 rfl 0 rfl ?_
                                                                                    refine J.iload hx dL_law_1309 4 rfl ?_
                                                                                    refine J.iconst (v := 1) hx dL_law_1311 (by decide) ?_
                                                                                    refine J.iadd hx dL_law_1312 ?_
                                                                                    refine J.iald8 (κ := 39) hx rfl rfl rfl (x32.mv (jN_old (jbb_ext.mv (x23.mv (jbn_old (jbb_ext.mv (x9.mv (jbn_old b0)))))))).1 dL_law_1313 fun v618 => ?_
                                                                                    refine J.aload_n hx dL_law_1314 rfl 0 rfl ?_
                                                                                    refine J.iload hx dL_law_1315 4 rfl ?_
                                                                                    refine J.iconst (v := 2) hx dL_law_1317 (by decide) ?_
                                                                                    refine J.iadd hx dL_law_1318 ?_
                                                                                    refine J.iald8 (κ := 39) hx rfl rfl rfl (x32.mv (jN_old (jbb_ext.mv (x23.mv (jbn_old (jbb_ext.mv (x9.mv (jbn_old b0)))))))).1 dL_law_1319 fun v620 => ?_
                                                                                    refine J.ite (fun h624 => ?_) (fun _ => J.nne)
                                                                                    refine J.calli hx (fun r z1 z => j_callV (κ := 0) hx rfl rfl (x32.mv (jN_old (jbb_ext.mv (x23.mv (jbn_old (jbb_own (S := jSX1 B8) (x9.mvh jbn_alh).1 jSX1_o)))))).1 (mt_X1_run (x32.mv (jN_old (jbb_ext.mv (x23.mv (jbn_old (jbb_own (S := jSX1 B8) (x9.mvh jbn_alh).1 jSX1_o)))))) z) (lw_V q1566 q1567 q1568 q120 q1569) hd_X1_run rfl ⟨Nat.le_of_ble_eq_true rfl, Nat.le_of_ble_eq_true rfl⟩ (Nat.le_of_ble_eq_true rfl) dL_law_1320) ⟨⟨rfl, rfl⟩, h624.1, h624.2⟩ fun v621 w622 e623 => ?_
                                                                                    refine J.aload_n hx dL_law_1323 rfl 2 rfl ?_
                                                                                    refine J.aload_n hx dL_law_1324 rfl 0 rfl ?_
                                                                                    refine J.iload hx dL_law_1325 4 rfl ?_
                                                                                    refine J.iconst (v := 1) hx dL_law_1327 (by decide) ?_
                                                                                    refine J.iadd hx dL_law_1328 ?_
                                                                                    refine J.iald8 (κ := 39) hx rfl rfl rfl (x32.mv (jN_old (jbb_ext.mv (x23.mv (jbn_old (jbb_ext.mv (x9.mv (jbn_old b0)))))))).1 dL_law_1329 fun v626 => ?_
                                                                                    refine J.aload_n hx dL_law_1330 rfl 0 rfl ?_
                                                                                    refine J.iload hx dL_law_1331 4 rfl ?_
                                                                                    refine J.iconst (v := 2) hx dL_law_1333 (by decide) ?_
                                                                                    refine J.iadd hx dL_law_1334 ?_
                                                                                    refine J.iald8 (κ := 39) hx rfl rfl rfl (x32.mv (jN_old (jbb_ext.mv (x23.mv (jbn_old (jbb_ext.mv (x9.mv (jbn_old b0)))))))).1 dL_law_1335 fun v628 => ?_
                                                                                    refine J.ite (fun h632 => ?_) (fun _ => J.nne)
                                                                                    refine J.calli hx (fun r z1 z => j_callV (κ := 1) hx rfl rfl (x32.mv (jN_old (jbb_own (S := jSX9 B22) (x23.mvh jbn_alh).1 jSX9_o))).1 (mt_X9_run (x32.mv (jN_old (jbb_own (S := jSX9 B22) (x23.mvh jbn_alh).1 jSX9_o))) z) (lw_V q2308 q2309 q2310 q129 q2311) hd_X9_run rfl ⟨Nat.le_of_ble_eq_true rfl, Nat.le_of_ble_eq_true rfl⟩ (Nat.le_of_ble_eq_true rfl) dL_law_1336) ⟨⟨rfl, rfl⟩, h632.1, h632.2⟩ fun v629 w630 e631 => ?_
                                                                                    refine J.icmp_eq (tgt := 1445) hx dL_law_1339 (by decide) ?_ ?_
                                                                                    · exact J.sub [0, 1, 2, 3, 4] rfl (hK1445 c33 c34 B31 j_ext.rf w630)
                                                                                    · refine J.iconst (v := 0) hx dL_law_1342 (by decide) ?_
                                                                                      refine J.ite (fun h633 => ?_) (fun _ => J.nne)
                                                                                      exact J.retL hx harg hsz h633.1 h633.2 dL_law_1343
                                                                                  · refine J.ite (fun e37 => ?_) (fun n37 => ?_)
                                                                                    · refine J.tsw (off := 1304) (tgt := 1344) hx dL_law_40 (by rw [e37]; decide) (by rw [e37]; decide) (by rw [e37]; rfl) (by decide) ?_
                                                                                      refine J.aload_n hx dL_law_1344 rfl 1 rfl ?_
                                                                                      refine J.aload_n hx dL_law_1345 rfl 0 rfl ?_
                                                                                      refine J.iload hx dL_law_1346 4 rfl ?_
                                                                                      refine J.iconst (v := 1) hx dL_law_1348 (by decide) ?_
                                                                                      refine J.iadd hx dL_law_1349 ?_
                                                                                      refine J.iald8 (κ := 39) hx rfl rfl rfl (x32.mv (jN_old (jbb_ext.mv (x23.mv (jbn_old (jbb_ext.mv (x9.mv (jbn_old b0)))))))).1 dL_law_1350 fun v635 => ?_
                                                                                      refine J.ite (fun h639 => ?_) (fun _ => J.nne)
                                                                                      refine J.callAi hx (fun r z1 z => j_callA_of (j_runV (κ := 0) hx rfl rfl (x32.mv (jN_old (jbb_ext.mv (x23.mv (jbn_old (jbb_own (S := jSX1 B8) (x9.mvh jbn_alh).1 jSX1_o)))))).1 (mt_X1_perform (x32.mv (jN_old (jbb_ext.mv (x23.mv (jbn_old (jbb_own (S := jSX1 B8) (x9.mvh jbn_alh).1 jSX1_o)))))) z) (lw_V q1570 q1571 q1572 q120 q1573) hd_X1_perform rfl ⟨Nat.le_of_ble_eq_true rfl, Nat.le_of_ble_eq_true rfl⟩ (Nat.le_of_ble_eq_true rfl) dL_law_1351)) h639 fun v636 w637 B640 e638 x641 x642 => ?_
                                                                                      refine J.cv (lv' := [(0, .ref (B640.1 39 i0)), (1, .ref (B640.1 0 0)), (2, .ref (B640.1 1 0)), (3, .ref (B640.1 38 0)), (4, .int v29)]) (st' := [.int v636]) (by first | rfl | (simp only [x641.ad (x32.mv (jN_old (jbb_ext.mv (x23.mv (jbn_old (jbb_ext.mv (x9.mv (jbn_old b0)))))))), x641.ad (x32.mv (jN_old (jbb_ext.mv (x23.mv (jbn_old (jbb_own (S := jSX1 B8) (x9.mvh jbn_alh).1 jSX1_o)))))), x641.ad (x32.mv (jN_old (jbb_own (S := jSX9 B22) (x23.mvh jbn_alh).1 jSX9_o))), x641.ad (x32.mv jN_al)]; done) | (simp only [x641.ad (x32.mv (jN_old (jbb_ext.mv (x23.mv (jbn_old (jbb_ext.mv (x9.mv (jbn_old b0)))))))), x641.ad (x32.mv (jN_old (jbb_ext.mv (x23.mv (jbn_old (jbb_own (S := jSX1 B8) (x9.mvh jbn_alh).1 jSX1_o)))))), x641.ad (x32.mv (jN_old (jbb_own (S := jSX9 B22) (x23.mvh jbn_alh).1 jSX9_o))), x641.ad (x32.mv jN_al)]; rfl)) (by first | rfl | (simp only [x641.ad (x32.mv (jN_old (jbb_ext.mv (x23.mv (jbn_old (jbb_ext.mv (x9.mv (jbn_old b0)))))))), x641.ad (x32.mv (jN_old (jbb_ext.mv (x23.mv (jbn_old (jbb_own (S := jSX1 B8) (x9.mvh jbn_alh).1 jSX1_o)))))), x641.ad (x32.mv (jN_old (jbb_own (S := jSX9 B22) (x23.mvh jbn_alh).1 jSX9_o))), x641.ad (x32.mv jN_al)]; done) | (simp only [x641.ad (x32.mv (jN_old (jbb_ext.mv (x23.mv (jbn_old (jbb_ext.mv (x9.mv (jbn_old b0)))))))), x641.ad (x32.mv (jN_old (jbb_ext.mv (x23.mv (jbn_old (jbb_own (S := jSX1 B8) (x9.mvh jbn_alh).1 jSX1_o)))))), x641.ad (x32.mv (jN_old (jbb_own (S := jSX9 B22) (x23.mvh jbn_alh).1 jSX9_o))), x641.ad (x32.mv jN_al)]; rfl)) ?_
                                                                                      refine J.aload_n hx dL_law_1354 rfl 2 rfl ?_
                                                                                      refine J.aload_n hx dL_law_1355 rfl 0 rfl ?_
                                                                                      refine J.iload hx dL_law_1356 4 rfl ?_
                                                                                      refine J.iconst (v := 1) hx dL_law_1358 (by decide) ?_
                                                                                      refine J.iadd hx dL_law_1359 ?_
                                                                                      refine J.iald8 (κ := 39) hx rfl rfl rfl (x641.mv (x32.mv (jN_old (jbb_ext.mv (x23.mv (jbn_old (jbb_ext.mv (x9.mv (jbn_old b0))))))))).1 dL_law_1360 fun v644 => ?_
                                                                                      refine J.ite (fun h648 => ?_) (fun _ => J.nne)
                                                                                      refine J.calli hx (fun r z1 z => j_callV (κ := 1) hx rfl rfl (x641.mv (x32.mv (jN_old (jbb_own (S := jSX9 B22) (x23.mvh jbn_alh).1 jSX9_o)))).1 (mt_X9_perform (x641.mv (x32.mv (jN_old (jbb_own (S := jSX9 B22) (x23.mvh jbn_alh).1 jSX9_o)))) z) (lw_V q2316 q2317 q2318 q129 q2319) hd_X9_perform rfl ⟨Nat.le_of_ble_eq_true rfl, Nat.le_of_ble_eq_true rfl⟩ (Nat.le_of_ble_eq_true rfl) dL_law_1361) ⟨⟨rfl, rfl⟩, h648.1, h648.2⟩ fun v645 w646 e647 => ?_
                                                                                      refine J.icmp_eq (tgt := 1445) hx dL_law_1364 (by decide) ?_ ?_
                                                                                      · exact J.sub [0, 1, 2, 3, 4] rfl (hK1445 (c33 + 48) (c34 + 2832) B640 x641 w646)
                                                                                      · refine J.iconst (v := 0) hx dL_law_1367 (by decide) ?_
                                                                                        refine J.ite (fun h649 => ?_) (fun _ => J.nne)
                                                                                        exact J.retL hx harg hsz h649.1 h649.2 dL_law_1368
                                                                                    · refine J.ite (fun e38 => ?_) (fun n38 => ?_)
                                                                                      · refine J.tsw (off := 1329) (tgt := 1369) hx dL_law_40 (by rw [e38]; decide) (by rw [e38]; decide) (by rw [e38]; rfl) (by decide) ?_
                                                                                        refine J.aload_n hx dL_law_1369 rfl 1 rfl ?_
                                                                                        refine J.aload_n hx dL_law_1370 rfl 0 rfl ?_
                                                                                        refine J.iload hx dL_law_1371 4 rfl ?_
                                                                                        refine J.iconst (v := 1) hx dL_law_1373 (by decide) ?_
                                                                                        refine J.iadd hx dL_law_1374 ?_
                                                                                        refine J.iald8 (κ := 39) hx rfl rfl rfl (x32.mv (jN_old (jbb_ext.mv (x23.mv (jbn_old (jbb_ext.mv (x9.mv (jbn_old b0)))))))).1 dL_law_1375 fun v651 => ?_
                                                                                        refine J.ite (fun h655 => ?_) (fun _ => J.nne)
                                                                                        refine J.callAi hx (fun r z1 z => j_callA_of (j_runV (κ := 0) hx rfl rfl (x32.mv (jN_old (jbb_ext.mv (x23.mv (jbn_old (jbb_own (S := jSX1 B8) (x9.mvh jbn_alh).1 jSX1_o)))))).1 (mt_X1_most (x32.mv (jN_old (jbb_ext.mv (x23.mv (jbn_old (jbb_own (S := jSX1 B8) (x9.mvh jbn_alh).1 jSX1_o)))))) z) (lw_V q1574 q1575 q1576 q120 q1577) hd_X1_most rfl ⟨Nat.le_of_ble_eq_true rfl, Nat.le_of_ble_eq_true rfl⟩ (Nat.le_of_ble_eq_true rfl) dL_law_1376)) h655 fun v652 w653 B656 e654 x657 x658 => ?_
                                                                                        refine J.cv (lv' := [(0, .ref (B656.1 39 i0)), (1, .ref (B656.1 0 0)), (2, .ref (B656.1 1 0)), (3, .ref (B656.1 38 0)), (4, .int v29)]) (st' := [.int v652]) (by first | rfl | (simp only [x657.ad (x32.mv (jN_old (jbb_ext.mv (x23.mv (jbn_old (jbb_ext.mv (x9.mv (jbn_old b0)))))))), x657.ad (x32.mv (jN_old (jbb_ext.mv (x23.mv (jbn_old (jbb_own (S := jSX1 B8) (x9.mvh jbn_alh).1 jSX1_o)))))), x657.ad (x32.mv (jN_old (jbb_own (S := jSX9 B22) (x23.mvh jbn_alh).1 jSX9_o))), x657.ad (x32.mv jN_al)]; done) | (simp only [x657.ad (x32.mv (jN_old (jbb_ext.mv (x23.mv (jbn_old (jbb_ext.mv (x9.mv (jbn_old b0)))))))), x657.ad (x32.mv (jN_old (jbb_ext.mv (x23.mv (jbn_old (jbb_own (S := jSX1 B8) (x9.mvh jbn_alh).1 jSX1_o)))))), x657.ad (x32.mv (jN_old (jbb_own (S := jSX9 B22) (x23.mvh jbn_alh).1 jSX9_o))), x657.ad (x32.mv jN_al)]; rfl)) (by first | rfl | (simp only [x657.ad (x32.mv (jN_old (jbb_ext.mv (x23.mv (jbn_old (jbb_ext.mv (x9.mv (jbn_old b0)))))))), x657.ad (x32.mv (jN_old (jbb_ext.mv (x23.mv (jbn_old (jbb_own (S := jSX1 B8) (x9.mvh jbn_alh).1 jSX1_o)))))), x657.ad (x32.mv (jN_old (jbb_own (S := jSX9 B22) (x23.mvh jbn_alh).1 jSX9_o))), x657.ad (x32.mv jN_al)]; done) | (simp only [x657.ad (x32.mv (jN_old (jbb_ext.mv (x23.mv (jbn_old (jbb_ext.mv (x9.mv (jbn_old b0)))))))), x657.ad (x32.mv (jN_old (jbb_ext.mv (x23.mv (jbn_old (jbb_own (S := jSX1 B8) (x9.mvh jbn_alh).1 jSX1_o)))))), x657.ad (x32.mv (jN_old (jbb_own (S := jSX9 B22) (x23.mvh jbn_alh).1 jSX9_o))), x657.ad (x32.mv jN_al)]; rfl)) ?_
                                                                                        refine J.aload_n hx dL_law_1379 rfl 2 rfl ?_
                                                                                        refine J.aload_n hx dL_law_1380 rfl 0 rfl ?_
                                                                                        refine J.iload hx dL_law_1381 4 rfl ?_
                                                                                        refine J.iconst (v := 1) hx dL_law_1383 (by decide) ?_
                                                                                        refine J.iadd hx dL_law_1384 ?_
                                                                                        refine J.iald8 (κ := 39) hx rfl rfl rfl (x657.mv (x32.mv (jN_old (jbb_ext.mv (x23.mv (jbn_old (jbb_ext.mv (x9.mv (jbn_old b0))))))))).1 dL_law_1385 fun v660 => ?_
                                                                                        refine J.ite (fun h664 => ?_) (fun _ => J.nne)
                                                                                        refine J.calli hx (fun r z1 z => j_callV (κ := 1) hx rfl rfl (x657.mv (x32.mv (jN_old (jbb_own (S := jSX9 B22) (x23.mvh jbn_alh).1 jSX9_o)))).1 (mt_X9_most (x657.mv (x32.mv (jN_old (jbb_own (S := jSX9 B22) (x23.mvh jbn_alh).1 jSX9_o)))) z) (lw_V q2320 q2321 q2322 q129 q2323) hd_X9_most rfl ⟨Nat.le_of_ble_eq_true rfl, Nat.le_of_ble_eq_true rfl⟩ (Nat.le_of_ble_eq_true rfl) dL_law_1386) ⟨⟨rfl, rfl⟩, h664.1, h664.2⟩ fun v661 w662 e663 => ?_
                                                                                        refine J.icmp_eq (tgt := 1445) hx dL_law_1389 (by decide) ?_ ?_
                                                                                        · exact J.sub [0, 1, 2, 3, 4] rfl (hK1445 (c33 + 1) (c34 + 2) B656 x657 w662)
                                                                                        · refine J.iconst (v := 0) hx dL_law_1392 (by decide) ?_
                                                                                          refine J.ite (fun h665 => ?_) (fun _ => J.nne)
                                                                                          exact J.retL hx harg hsz h665.1 h665.2 dL_law_1393
                                                                                      · refine J.ite (fun e39 => ?_) (fun n39 => ?_)
                                                                                        · refine J.tsw (off := 1354) (tgt := 1394) hx dL_law_40 (by rw [e39]; decide) (by rw [e39]; decide) (by rw [e39]; rfl) (by decide) ?_
                                                                                          refine J.aload_n hx dL_law_1394 rfl 1 rfl ?_
                                                                                          refine J.ite (fun h669 => ?_) (fun _ => J.nne)
                                                                                          refine J.calli hx (fun r z1 z => j_callV (κ := 0) hx rfl rfl (x32.mv (jN_old (jbb_ext.mv (x23.mv (jbn_old (jbb_own (S := jSX1 B8) (x9.mvh jbn_alh).1 jSX1_o)))))).1 (mt_X1_image (x32.mv (jN_old (jbb_ext.mv (x23.mv (jbn_old (jbb_own (S := jSX1 B8) (x9.mvh jbn_alh).1 jSX1_o)))))) z) (lw_V q1599 q1600 q1601 q120 q1602) hd_X1_image rfl ⟨Nat.le_of_ble_eq_true rfl, Nat.le_of_ble_eq_true rfl⟩ (Nat.le_of_ble_eq_true rfl) dL_law_1395) ⟨⟨rfl, rfl⟩, h669.1, h669.2⟩ fun v666 w667 e668 => ?_
                                                                                          refine J.aload_n hx dL_law_1398 rfl 2 rfl ?_
                                                                                          refine J.ite (fun h673 => ?_) (fun _ => J.nne)
                                                                                          refine J.calli hx (fun r z1 z => j_callV (κ := 1) hx rfl rfl (x32.mv (jN_old (jbb_own (S := jSX9 B22) (x23.mvh jbn_alh).1 jSX9_o))).1 (mt_X9_image (x32.mv (jN_old (jbb_own (S := jSX9 B22) (x23.mvh jbn_alh).1 jSX9_o))) z) (lw_V q2231 q2232 q2233 q129 q2234) hd_X9_image rfl ⟨Nat.le_of_ble_eq_true rfl, Nat.le_of_ble_eq_true rfl⟩ (Nat.le_of_ble_eq_true rfl) dL_law_1399) ⟨⟨rfl, rfl⟩, h673.1, h673.2⟩ fun v670 w671 e672 => ?_
                                                                                          refine J.icmp_eq (tgt := 1445) hx dL_law_1402 (by decide) ?_ ?_
                                                                                          · exact J.sub [0, 1, 2, 3, 4] rfl (hK1445 c33 c34 B31 j_ext.rf w671)
                                                                                          · refine J.iconst (v := 0) hx dL_law_1405 (by decide) ?_
                                                                                            refine J.ite (fun h674 => ?_) (fun _ => J.nne)
                                                                                            exact J.retL hx harg hsz h674.1 h674.2 dL_law_1406
                                                                                        · refine J.ite (fun e40 => ?_) (fun n40 => ?_)
                                                                                          · refine J.tsw (off := 1367) (tgt := 1407) hx dL_law_40 (by rw [e40]; decide) (by rw [e40]; decide) (by rw [e40]; rfl) (by decide) ?_
                                                                                            refine J.aload_n hx dL_law_1407 rfl 1 rfl ?_
                                                                                            refine J.ite (fun h678 => ?_) (fun _ => J.nne)
                                                                                            refine J.calli hx (fun r z1 z => j_callV (κ := 0) hx rfl rfl (x32.mv (jN_old (jbb_ext.mv (x23.mv (jbn_old (jbb_own (S := jSX1 B8) (x9.mvh jbn_alh).1 jSX1_o)))))).1 (mt_X1_back (x32.mv (jN_old (jbb_ext.mv (x23.mv (jbn_old (jbb_own (S := jSX1 B8) (x9.mvh jbn_alh).1 jSX1_o)))))) z) (lw_V q1603 q1604 q1605 q120 q1606) hd_X1_back rfl ⟨Nat.le_of_ble_eq_true rfl, Nat.le_of_ble_eq_true rfl⟩ (Nat.le_of_ble_eq_true rfl) dL_law_1408) ⟨⟨rfl, rfl⟩, h678.1, h678.2⟩ fun v675 w676 e677 => ?_
                                                                                            refine J.aload_n hx dL_law_1411 rfl 2 rfl ?_
                                                                                            refine J.ite (fun h682 => ?_) (fun _ => J.nne)
                                                                                            refine J.calli hx (fun r z1 z => j_callV (κ := 1) hx rfl rfl (x32.mv (jN_old (jbb_own (S := jSX9 B22) (x23.mvh jbn_alh).1 jSX9_o))).1 (mt_X9_back (x32.mv (jN_old (jbb_own (S := jSX9 B22) (x23.mvh jbn_alh).1 jSX9_o))) z) (lw_V q2235 q2236 q2237 q129 q2238) hd_X9_back rfl ⟨Nat.le_of_ble_eq_true rfl, Nat.le_of_ble_eq_true rfl⟩ (Nat.le_of_ble_eq_true rfl) dL_law_1412) ⟨⟨rfl, rfl⟩, h682.1, h682.2⟩ fun v679 w680 e681 => ?_
                                                                                            refine J.icmp_eq (tgt := 1445) hx dL_law_1415 (by decide) ?_ ?_
                                                                                            · exact J.sub [0, 1, 2, 3, 4] rfl (hK1445 c33 c34 B31 j_ext.rf w680)
                                                                                            · refine J.iconst (v := 0) hx dL_law_1418 (by decide) ?_
                                                                                              refine J.ite (fun h683 => ?_) (fun _ => J.nne)
                                                                                              exact J.retL hx harg hsz h683.1 h683.2 dL_law_1419
                                                                                          · refine J.ite (fun e41 => ?_) (fun n41 => ?_)
                                                                                            · refine J.tsw (off := 1380) (tgt := 1420) hx dL_law_40 (by rw [e41]; decide) (by rw [e41]; decide) (by rw [e41]; rfl) (by decide) ?_
                                                                                              refine J.aload_n hx dL_law_1420 rfl 1 rfl ?_
                                                                                              refine J.aload_n hx dL_law_1421 rfl 0 rfl ?_
                                                                                              refine J.iload hx dL_law_1422 4 rfl ?_
                                                                                              refine J.iconst (v := 1) hx dL_law_1424 (by decide) ?_
                                                                                              refine J.iadd hx dL_law_1425 ?_
                                                                                              refine J.iald8 (κ := 39) hx rfl rfl rfl (x32.mv (jN_old (jbb_ext.mv (x23.mv (jbn_old (jbb_ext.mv (x9.mv (jbn_old b0)))))))).1 dL_law_1426 fun v685 => ?_
                                                                                              refine J.ite (fun h689 => ?_) (fun _ => J.nne)
                                                                                              refine J.calli hx (fun r z1 z => j_callV (κ := 0) hx rfl rfl (x32.mv (jN_old (jbb_ext.mv (x23.mv (jbn_old (jbb_own (S := jSX1 B8) (x9.mvh jbn_alh).1 jSX1_o)))))).1 (mt_X1_held (x32.mv (jN_old (jbb_ext.mv (x23.mv (jbn_old (jbb_own (S := jSX1 B8) (x9.mvh jbn_alh).1 jSX1_o)))))) z) (lw_V q1607 q1608 q1609 q120 q1610) hd_X1_held rfl ⟨Nat.le_of_ble_eq_true rfl, Nat.le_of_ble_eq_true rfl⟩ (Nat.le_of_ble_eq_true rfl) dL_law_1427) ⟨⟨rfl, rfl⟩, h689.1, h689.2⟩ fun v686 w687 e688 => ?_
                                                                                              refine J.aload_n hx dL_law_1430 rfl 2 rfl ?_
                                                                                              refine J.aload_n hx dL_law_1431 rfl 0 rfl ?_
                                                                                              refine J.iload hx dL_law_1432 4 rfl ?_
                                                                                              refine J.iconst (v := 1) hx dL_law_1434 (by decide) ?_
                                                                                              refine J.iadd hx dL_law_1435 ?_
                                                                                              refine J.iald8 (κ := 39) hx rfl rfl rfl (x32.mv (jN_old (jbb_ext.mv (x23.mv (jbn_old (jbb_ext.mv (x9.mv (jbn_old b0)))))))).1 dL_law_1436 fun v691 => ?_
                                                                                              refine J.ite (fun h695 => ?_) (fun _ => J.nne)
                                                                                              refine J.calli hx (fun r z1 z => j_callV (κ := 1) hx rfl rfl (x32.mv (jN_old (jbb_own (S := jSX9 B22) (x23.mvh jbn_alh).1 jSX9_o))).1 (mt_X9_held (x32.mv (jN_old (jbb_own (S := jSX9 B22) (x23.mvh jbn_alh).1 jSX9_o))) z) (lw_V q2340 q2341 q2342 q129 q2343) hd_X9_held rfl ⟨Nat.le_of_ble_eq_true rfl, Nat.le_of_ble_eq_true rfl⟩ (Nat.le_of_ble_eq_true rfl) dL_law_1437) ⟨⟨rfl, rfl⟩, h695.1, h695.2⟩ fun v692 w693 e694 => ?_
                                                                                              refine J.icmp_eq (tgt := 1445) hx dL_law_1440 (by decide) ?_ ?_
                                                                                              · exact J.sub [0, 1, 2, 3, 4] rfl (hK1445 c33 c34 B31 j_ext.rf w693)
                                                                                              · refine J.iconst (v := 0) hx dL_law_1443 (by decide) ?_
                                                                                                refine J.ite (fun h696 => ?_) (fun _ => J.nne)
                                                                                                exact J.retL hx harg hsz h696.1 h696.2 dL_law_1444
                                                                                            · have z0 := j_neT n0 (a := 0) (by decide)
                                                                                              have z1 := j_neT n1 (a := 1) (by decide)
                                                                                              have z2 := j_neT n2 (a := 2) (by decide)
                                                                                              have z3 := j_neT n3 (a := 3) (by decide)
                                                                                              have z4 := j_neT n4 (a := 4) (by decide)
                                                                                              have z5 := j_neT n5 (a := 5) (by decide)
                                                                                              have z6 := j_neT n6 (a := 6) (by decide)
                                                                                              have z7 := j_neT n7 (a := 7) (by decide)
                                                                                              have z8 := j_neT n8 (a := 8) (by decide)
                                                                                              have z9 := j_neT n9 (a := 9) (by decide)
                                                                                              have z10 := j_neT n10 (a := 10) (by decide)
                                                                                              have z11 := j_neT n11 (a := 11) (by decide)
                                                                                              have z12 := j_neT n12 (a := 12) (by decide)
                                                                                              have z13 := j_neT n13 (a := 13) (by decide)
                                                                                              have z14 := j_neT n14 (a := 14) (by decide)
                                                                                              have z15 := j_neT n15 (a := 15) (by decide)
                                                                                              have z16 := j_neT n16 (a := 16) (by decide)
                                                                                              have z17 := j_neT n17 (a := 17) (by decide)
                                                                                              have z18 := j_neT n18 (a := 18) (by decide)
                                                                                              have z19 := j_neT n19 (a := 19) (by decide)
                                                                                              have z20 := j_neT n20 (a := 20) (by decide)
                                                                                              have z21 := j_neT n21 (a := 21) (by decide)
                                                                                              have z22 := j_neT n22 (a := 22) (by decide)
                                                                                              have z23 := j_neT n23 (a := 23) (by decide)
                                                                                              have z24 := j_neT n24 (a := 24) (by decide)
                                                                                              have z25 := j_neT n25 (a := 25) (by decide)
                                                                                              have z26 := j_neT n26 (a := 26) (by decide)
                                                                                              have z27 := j_neT n27 (a := 27) (by decide)
                                                                                              have z28 := j_neT n28 (a := 28) (by decide)
                                                                                              have z29 := j_neT n29 (a := 29) (by decide)
                                                                                              have z30 := j_neT n30 (a := 30) (by decide)
                                                                                              have z31 := j_neT n31 (a := 31) (by decide)
                                                                                              have z32 := j_neT n32 (a := 32) (by decide)
                                                                                              have z33 := j_neT n33 (a := 33) (by decide)
                                                                                              have z34 := j_neT n34 (a := 34) (by decide)
                                                                                              have z35 := j_neT n35 (a := 35) (by decide)
                                                                                              have z36 := j_neT n36 (a := 36) (by decide)
                                                                                              have z37 := j_neT n37 (a := 37) (by decide)
                                                                                              have z38 := j_neT n38 (a := 38) (by decide)
                                                                                              have z39 := j_neT n39 (a := 39) (by decide)
                                                                                              have z40 := j_neT n40 (a := 40) (by decide)
                                                                                              have z41 := j_neT n41 (a := 41) (by decide)
                                                                                              refine J.tswD (tgt := 1445) hx dL_law_40 (by omega) (by decide) ?_
                                                                                              exact J.sub [0, 1, 2, 3, 4] rfl (hK1445 c33 c34 B31 j_ext.rf w30)
  refine J.sub [4, 3, 2, 1, 0] rfl (hL23 jFU 0 2030 41038 (jbN (jbb B22 (jSX9 B22)) 38 0 z28) j_ext.rf w27)
